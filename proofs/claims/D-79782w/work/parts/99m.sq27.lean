/-! SQ 27: a question asked on both sides -/
set_option maxRecDepth 100000
theorem step_cg {A : qkA} {rss rss' : Nat → List qkRow} : ∀ {m s : Nat} {Mt : Nat → qkRow} {vs : List qkV}, (∀ i, s ≤ i → i < s + m → rss i = rss' i) → kf_step A rss m s Mt vs = kf_step A rss' m s Mt vs := by
  intro m
  induction m with
  | zero => intro s Mt vs _; rfl
  | succ m ih =>
    intro s Mt vs h
    show (rss s).foldl (fun ws r => if kf_linkedAt (aLink A) (qkU Mt s r) s = true then kf_step A rss m (s + 1) (qkU Mt s r) ws else ws) vs = (rss' s).foldl (fun ws r => if kf_linkedAt (aLink A) (qkU Mt s r) s = true then kf_step A rss' m (s + 1) (qkU Mt s r) ws else ws) vs
    rw [h s (Nat.le_refl _) (by omega)]
    refine foldl_cg (fun ws r _ => ?_)
    rw [ih (fun i h1 h2 => h i (by omega) (by omega))]
theorem walk_cg {A : qkA} {rss rss' : Nat → List qkRow} {n : Nat} (h : ∀ i, i < n → rss i = rss' i) : kf_walk A rss n = kf_walk A rss' n := step_cg (fun i _ h2 => h i (by omega))
theorem ship_f {A : qkA} {src k : Nat} {sent : List qkC} {rows : List qkRow} {sv f : Nat → Int32} {b d col : Int32} {ks : List Int32} (h4 : k ≠ 4) (h5 : k ≠ 5) (h6 : k ≠ 6) : (kf_ship A src sent rows sv f b d col ks).2.2.1 k = f k := by
  unfold kf_ship
  by_cases c : (kf_req (src / 2) b d 3 A f).1 = 0
  · simp only [c, if_true]
    rw [upd_n h4, upd_n h6]
    exact req_f h4 h5 3
  · simp only [c, if_false]
    exact req_f h4 h5 3
theorem scan_f {A : qkA} {src k : Nat} {sent : List qkC} {sv f : Nat → Int32} {b d : Int32} (h4 : k ≠ 4) (h5 : k ≠ 5) (h6 : k ≠ 6) : (kf_scan A src sent sv f b d).2.1 k = f k := by
  have hs : (kf_ship A src sent [] (upd sv 6 0) f b d (-1) []).2.2.1 k = f k := ship_f h4 h5 h6
  unfold kf_scan
  by_cases c : (kf_ship A src sent [] (upd sv 6 0) f b d (-1) []).1 = 0
  · rw [if_pos c]
    by_cases c2 : (kf_ship A src sent [] (upd sv 6 0) f b d (-1) []).2.2.2.1 6 = 0
    · rw [if_pos c2]; exact hs
    · rw [if_neg c2]; exact hs
  · rw [if_neg c]; exact hs
theorem bl_f {src i : Nat} {sent : List qkC} {ks : List Int32} {col b d most : Int32} (h4 : i ≠ 4) (h5 : i ≠ 5) (h6 : i ≠ 6) : ∀ {n k : Nat} {A : qkA} {f sv : Nat → Int32} {rows : List qkRow}, (kf_bl src sent ks col b d most n k A f sv rows).2.2.1 i = f i := by
  intro n
  induction n with
  | zero => intro k A f sv rows; rfl
  | succ n ih =>
    intro k A f sv rows
    have hs : (kf_bship src sent ks col b d k A f sv rows).2.2.1 i = f i := ship_f h4 h5 h6
    rw [kf_bl]
    split
    · split
      · exact ih.trans hs
      · exact hs
    · exact hs
theorem bind_f {A : qkA} {src osrc i : Nat} {sent : List qkC} {sv osv : Nat → Int32} {orows : List qkRow} {l : qkC} {b d : Int32} {f : Nat → Int32} (h4 : i ≠ 4) (h5 : i ≠ 5) (h6 : i ≠ 6) : (kf_bind A src osrc sent sv osv orows l b d f).2.2.1 i = f i := by
  unfold kf_bind
  split
  · rfl
  · split
    · rfl
    · split
      · rfl
      · exact bl_f h4 h5 h6
theorem pre_f {A : qkA} {n i k : Nat} {ss : Nat → qkSeat} {fresh b d : Int32} {f : Nat → Int32} (h4 : k ≠ 4) (h5 : k ≠ 5) (h6 : k ≠ 6) : (kf_pre A n ss i fresh b d f).2.1 k = f k := by
  unfold kf_pre
  split
  · split <;> rfl
  · split
    · exact scan_f h4 h5 h6
    · split
      · rfl
      · split
        · rw [scan_f h4 h5 h6]
          exact bind_f h4 h5 h6
        · exact bind_f h4 h5 h6
theorem qkI.bind {T M src osrc : Nat} {A : qkA} {sent : List qkC} {sv osv : Nat → Int32} {orows : List qkRow} {l : qkC} {b d : Int32} {f : Nat → Int32} (h : qkI T M A) (h6 : src < 6) (ho : orows.length ≤ 12) (hT : T + 480 ≤ 2 ^ 20) : qkI (T + 480) M (kf_bind A src osrc sent sv osv orows l b d f).2.1 := by
  unfold kf_bind
  split
  · exact h.le (by omega) (Nat.le_refl _)
  · split
    · exact h.le (by omega) (Nat.le_refl _)
    · split
      · exact h.le (by omega) (Nat.le_refl _)
      · have hk : (kf_keys (kf_colOf l (osv 0)) orows).length ≤ 12 := Nat.le_trans keys_len ho
        exact (qkI.bl h6 _ 0 T A f _ [] h (by omega)).le (by omega) (Nat.le_refl _)
theorem qkI.take {T M n i : Nat} {A : qkA} {ss : Nat → qkSeat} {fresh b d : Int32} {f : Nat → Int32} (h : qkI T M A) (h6 : (ss i).1 < 6) (hs : (ss i).2.2.1.length ≤ 4) (hr : ∀ o, (ss o).2.2.2.1.length ≤ 12) (hT : T + 600 ≤ 2 ^ 20) : qkI (T + 600) M (kf_take A n ss i fresh b d f).1 := by
  unfold kf_take kf_pre
  dsimp only
  split
  · split
    · exact h.le (by omega) (Nat.le_refl _)
    · exact h.le (by omega) (Nat.le_refl _)
  · split
    · exact (h.scan h6 hs (by omega)).le (by omega) (Nat.le_refl _)
    · split
      · exact h.le (by omega) (Nat.le_refl _)
      · split
        · exact ((h.bind h6 (hr _) (by omega)).scan h6 hs (by omega)).le (by omega) (Nat.le_refl _)
        · exact (h.bind h6 (hr _) (by omega)).le (by omega) (Nat.le_refl _)
theorem or_z {a b : Int32} (h : a ||| b = 0) : a = 0 ∧ b = 0 := by
  have h' := congrArg Int32.toBitVec h
  rw [Int32.toBitVec_or] at h'
  have e0 : (0 : Int32).toBitVec = 0#32 := rfl
  rw [e0, BitVec.or_eq_zero_iff] at h'
  exact ⟨Int32.toBitVec_inj.mp (h'.1.trans e0.symm), Int32.toBitVec_inj.mp (h'.2.trans e0.symm)⟩
theorem open_z {ss : Nat → qkSeat} : ∀ {k : Nat}, kf_open ss k = 0 → ∀ i, i < k → kf_taken ss i = true → kf_bit (ss i) = 0 := by
  intro k
  induction k with
  | zero => intro _ i hi; omega
  | succ k ih =>
    intro h i hi ht
    obtain ⟨h1, h2⟩ := or_z (show kf_open ss k ||| (if kf_taken ss k = true then kf_bit (ss k) else 0) = 0 from h)
    by_cases e : i = k
    · subst e
      rw [if_pos ht] at h2
      exact h2
    · exact ih h1 i (by omega) ht
theorem bit_z {v : qkSeat} {i : Nat} (hi : i < 3) (h0 : v.2.2.2.2 0 = nI i) (h : kf_bit v = 0) : v.2.2.2.2 6 = 0 := by
  unfold kf_bit at h
  rw [h0] at h
  apply Classical.byContradiction
  intro c
  rw [if_neg c] at h
  have : i = 0 ∨ i = 1 ∨ i = 2 := by omega
  rcases this with rfl | rfl | rfl
  · exact absurd h (by decide)
  · exact absurd h (by decide)
  · exact absurd h (by decide)
theorem gath_f {A : qkA} {ss : Nat → qkSeat} {f : Nat → Int32} {i : Nat} (h : i ≠ 2) : ∀ {k : Nat}, (kf_gath A ss f k).2.2 i = f i := by
  intro k
  induction k with
  | zero => rfl
  | succ k ih =>
    show upd (kf_gath A ss f k).2.2 2 _ i = f i
    rw [upd_n h]
    exact ih
theorem gath_2 {A : qkA} {ss : Nat → qkSeat} {f : Nat → Int32} (h : f 2 = 0) : ∀ {k : Nat}, (∀ i, i < k → kf_taken ss i = true) → (kf_gath A ss f k).2.2 2 = kf_open ss k := by
  intro k
  induction k with
  | zero => intro _; exact h
  | succ k ih =>
    intro ht
    show upd (kf_gath A ss f k).2.2 2 ((kf_gath A ss f k).2.2 2 ||| kf_bit (ss k)) 2 = kf_open ss k ||| (if kf_taken ss k = true then kf_bit (ss k) else 0)
    rw [upd_s, ih (fun i hi => ht i (by omega)), if_pos (ht k (by omega))]
theorem km_claimed {A : qkA} {S : qm_S} {n : Nat} {ss : Nat → qkSeat} {f : Nat → Int32} {K : Int32 → Prop} (hn3 : n ≤ 3) (h22 : S.1 22 = nI n) (h7 : S.1 7 = aQ A 14) (h78 : S.1 78 = kf_open ss n) (hf2 : f 2 = 0) (ht : ∀ i, i < n → kf_taken ss i = true) (h0 : ∀ i, i < n → (ss i).2.2.2.2 0 = nI i) (hse : ∀ i, i < n → (ss i).2.2.2.2 6 = 0 → S.2 60 i = kf_sin A (ss i) ∧ S.2 61 i = kf_unt A (ss i)) (hk : K (kf_claim (kf_gath A ss f n))) : T_X8_claimed S K := by
  have hg2 := gath_2 (A := A) hf2 ht
  unfold kf_claim at hk
  rw [hg2] at hk
  unfold T_X8_claimed
  intro X hX
  rw [h7]
  by_cases ho : kf_open ss n = 0
  · have hb : ∀ i, i < n → (ss i).2.2.2.2 6 = 0 := fun i hi => bit_z (by omega) (h0 i hi) (open_z ho i hi (ht i hi))
    refine lp (P := fun s (p : Int32 × Int32) => X p.1 p.2 (nI s)) n (fun s p => p.1 = (kf_gath A ss f s).1 ∧ p.2 = (kf_gath A ss f s).2.1) (fun s p hs hI ih => ?_) 0 (0, aQ A 14) (Nat.zero_le _) ⟨rfl, rfl⟩
    obtain ⟨x, y⟩ := p
    obtain ⟨e1, e2⟩ := hI
    dsimp only at e1 e2 ⊢
    subst e1 e2
    refine hX _ _ _ ?_
    rw [h22, h78, ho]
    refine pk_le n s (fun z => ?_) (fun z => ?_)
    · obtain rfl : s = n := by omega
      refine ⟨fun q => absurd rfl q, fun _ => ⟨fun q => ?_, fun q => ?_⟩⟩
      · rw [if_neg (fun w => w.2 q)] at hk
        exact hk
      · rw [if_pos ⟨ho, q⟩] at hk
        exact hk
    · obtain ⟨x1, x2⟩ := hse s z (hb s z)
      rw [nI_clamp (n := s) (by omega), x1, x2, nI_1]
      have hlo : (if kf_sin A (ss s) ≤ (kf_gath A ss f s).1 then (kf_gath A ss f s).1 else kf_sin A (ss s)) = (kf_gath A ss f (s + 1)).1 := by
        show _ = if (kf_gath A ss f s).1 < kf_sin A (ss s) then kf_sin A (ss s) else (kf_gath A ss f s).1
        by_cases c : kf_sin A (ss s) ≤ (kf_gath A ss f s).1
        · rw [if_pos c, if_neg (Int32.not_lt.mpr c)]
        · rw [if_neg c, if_pos (Int32.not_le.mp c)]
      have hhi : (kf_gath A ss f (s + 1)).2.1 = if kf_unt A (ss s) < (kf_gath A ss f s).2.1 then kf_unt A (ss s) else (kf_gath A ss f s).2.1 := rfl
      refine ⟨pk_in s 3 (by omega), pk_in s 3 (by omega), fun c => ih z (_, _) ⟨hlo, ?_⟩, fun c => ih z (_, _) ⟨hlo, ?_⟩⟩
      · rw [hhi, if_neg (Int32.not_lt.mpr c)]
      · rw [hhi, if_pos (Int32.not_le.mp c)]
        rfl
  · rw [if_neg (fun w => ho w.1)] at hk
    refine lp (P := fun s (p : Int32 × Int32) => X p.1 p.2 (nI s)) n (fun s p => True) (fun s p hs hI ih => ?_) 0 (0, aQ A 14) (Nat.zero_le _) trivial
    refine hX _ _ _ ?_
    rw [h22, h78]
    refine pk_le n s (fun z => ⟨fun _ => hk, fun q => absurd q ho⟩) (fun z => ?_)
    rw [nI_clamp (n := s) (by omega), nI_1]
    exact ⟨pk_in s 3 (by omega), pk_in s 3 (by omega), fun c => ih z (_, _) trivial, fun c => ih z (_, _) trivial⟩
