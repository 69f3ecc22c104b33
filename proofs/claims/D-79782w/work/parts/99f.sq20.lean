/-! SQ 20: a seat taken on both sides -/
set_option maxRecDepth 100000
def kf_open (ss : Nat → qkSeat) : Nat → Int32
  | 0 => 0
  | k + 1 => kf_open ss k ||| (if kf_taken ss k = true then kf_bit (ss k) else 0)
def cSeat (A : qkA) (S : qm_S) (i : Nat) (v : qkSeat) : Prop := (v.2.2.2.2 5 = 0 → v.2.2.2.2 6 = 0 ∧ v.2.2.2.2 9 = 0) ∧ (¬ v.2.2.2.2 5 = 0 → ∃ raw, rSeat S i raw ∧ v.2.2.2.1 = raw.filter (fun r => kf_all (kf_own A (nI i)) r) ∧ (v.2.2.2.2 6 = 0 → S.2 60 i = kf_since (aWr A v.1) (v.2.2.2.2 8) ∧ S.2 61 i = kf_until (aWr A v.1) (v.2.2.2.2 8) (aQ A 14)))
/-- a question under way -/
def cQ (A : qkA) (S : qm_S) (n : Nat) (ss : Nat → qkSeat) (f : Nat → Int32) (tk : List Int32) (b d fresh : Int32) : Prop := cSt A n ss ∧ cTk S n ss ∧ (∀ i, i < n → cSeat A S i (ss i)) ∧ rF f S ∧ (S.1 83 = nI tk.length ∧ ∀ (k : Nat) (x : Int32), tk[k]? = some x → S.2 84 k = x) ∧ S.1 78 = kf_open ss n ∧ S.1 52 = b ∧ S.1 53 = fresh ∧ S.1 54 = d
/-- what the rows of a seat leave as it is -/
def qG (i : Nat) (S S' : qm_S) : Prop := (∀ k, k = 0 ∨ k = 52 ∨ k = 53 ∨ k = 54 ∨ k = 78 ∨ k = 83 → S'.1 k = S.1 k) ∧ S'.2 56 = S.2 56 ∧ S'.2 84 = S.2 84 ∧ (∀ j, j ≠ i → S'.2 57 j = S.2 57 j ∧ S'.2 60 j = S.2 60 j ∧ S'.2 61 j = S.2 61 j) ∧ ∀ q, (q < 12 * i ∨ 12 * i + 12 ≤ q) → S'.2 58 q = S.2 58 q ∧ ∀ c, c < 4 → S'.2 59 (4 * q + c) = S.2 59 (4 * q + c)
theorem qF.g {i : Nat} {S S' : qm_S} (h : qF i S S') : qG i S S' := ⟨fun k hk => h.1 k (by omega) (by omega) (by omega) (by omega) (by omega) (by omega) (by omega), h.2.1 56 (by decide) (by decide) (by decide) (by decide), h.2.1 84 (by decide) (by decide) (by decide) (by decide), fun j hj => ⟨h.2.2.1 j hj, by rw [h.2.1 60 (by decide) (by decide) (by decide) (by decide)], by rw [h.2.1 61 (by decide) (by decide) (by decide) (by decide)]⟩, h.2.2.2⟩
theorem qG.tr {i : Nat} {S S' S'' : qm_S} (h : qG i S S') (k : qG i S' S'') : qG i S S'' := ⟨fun j a => (k.1 j a).trans (h.1 j a), k.2.1.trans h.2.1, k.2.2.1.trans h.2.2.1, fun j a => ⟨(k.2.2.2.1 j a).1.trans (h.2.2.2.1 j a).1, (k.2.2.2.1 j a).2.1.trans (h.2.2.2.1 j a).2.1, (k.2.2.2.1 j a).2.2.trans (h.2.2.2.1 j a).2.2⟩, fun q a => ⟨(k.2.2.2.2 q a).1.trans (h.2.2.2.2 q a).1, fun c hc => ((k.2.2.2.2 q a).2 c hc).trans ((h.2.2.2.2 q a).2 c hc)⟩⟩
theorem rSeat.g {i j : Nat} {S S' : qm_S} {raw : List qkRow} (h : rSeat S j raw) (hf : qG i S S') (hne : j ≠ i) : rSeat S' j raw := by
  obtain ⟨h1, h2, h3⟩ := h
  refine ⟨(hf.2.2.2.1 j hne).1.trans h1, h2, fun k r hr => ?_⟩
  have hk := (List.getElem?_eq_some_iff.mp hr).1
  obtain ⟨z1, z2⟩ := hf.2.2.2.2 (12 * j + k) (by omega)
  exact (h3 k r hr).up z1 z2
theorem open_ge {ss : Nat → qkSeat} {i : Nat} {v : qkSeat} : ∀ {k : Nat}, k ≤ i → kf_open (qkU ss i v) k = kf_open ss k := by
  intro k
  induction k with
  | zero => intro _; rfl
  | succ k ih =>
    intro h
    show kf_open (qkU ss i v) k ||| (if kf_taken (qkU ss i v) k = true then kf_bit (qkU ss i v k) else 0) = kf_open ss k ||| (if kf_taken ss k = true then kf_bit (ss k) else 0)
    rw [ih (by omega), taken_n (show k ≠ i by omega), qkU_n (show k ≠ i by omega)]
theorem open_upd {ss : Nat → qkSeat} {i : Nat} {v : qkSeat} (h0 : kf_taken ss i = false) (h1 : ¬ v.2.2.2.2 5 = 0) : ∀ {k : Nat}, i < k → kf_open (qkU ss i v) k = kf_open ss k ||| kf_bit v := by
  intro k
  induction k with
  | zero => intro h; omega
  | succ k ih =>
    intro h
    show kf_open (qkU ss i v) k ||| (if kf_taken (qkU ss i v) k = true then kf_bit (qkU ss i v k) else 0) = (kf_open ss k ||| (if kf_taken ss k = true then kf_bit (ss k) else 0)) ||| kf_bit v
    by_cases e : k = i
    · subst e
      have ht : kf_taken (qkU ss k v) k = true := by
        unfold kf_taken
        rw [qkU_s]
        exact decide_eq_true h1
      rw [open_ge (Nat.le_refl k), ht, if_pos rfl, qkU_s, h0, if_neg (by decide), Int32.or_zero]
    · rw [ih (by omega), taken_n e, qkU_n e, Int32.or_assoc, Int32.or_comm (kf_bit v), ← Int32.or_assoc]
theorem takes_end {A A' : qkA} {S S1 : qm_S} {n i h7 : Nat} {ss : Nat → qkSeat} {f f' sv' : Nat → Int32} {tk : List Int32} {b d fresh x : Int32} {raw : List qkRow} {K : qm_S → Prop} (hn3 : n ≤ 3) (hQ : cQ A S n ss f tk b d fresh) (hin : i < n) (hnt : kf_taken ss i = false) (htl : tk.length ≤ 2) (hA : qkTk A A') (hB : qkB A' S1) (hG : qG i S S1) (hraw : rSeat S1 i raw) (hf : rF f' S1) (hx : x = kf_code sv') (h60 : sv' 6 = 0 → S1.2 60 i = kf_since (aWr A (ss i).1) (sv' 8) ∧ S1.2 61 i = kf_until (aWr A (ss i).1) (sv' 8) (aQ A 14)) (hh : h7 ≤ 3) (h7' : sv' 7 = nI h7) (h0 : sv' 0 = nI i)
    (hk : ∀ S' : qm_S, qkB A' S' → cQ A' S' n (qkU ss i ((ss i).1, (ss i).2.1, (ss i).2.2.1, raw.filter (fun r => kf_all (ss i).2.1 r), upd sv' 5 1)) f' (tk ++ [10 * (upd sv' 5 1) 0 + (upd sv' 5 1) 7]) b d fresh → S'.1 0 = S.1 0 → K S') : vp_in (nI i) (qm_len 56) ∧ vp_in (S1.1 83) (qm_len 84) ∧ K ((upd (upd S1.1 78 ((S1.1 78) ||| ((if x < 10 then (0 : Int32) else 1 <<< (nI i &&& 31))))) 83 ((S1.1 83) + 1), qm_uA (qm_uA S1.2 56 (upd (S1.2 56) i 1)) 84 (upd (S1.2 84) (S1.1 83).toNatClampNeg ((10 * nI i) + (x - x / 10 * 10))))) := by
  obtain ⟨qSt, qTk, qSe, _, ⟨q83, qtk⟩, q78, q52, q53, q54⟩ := hQ
  have g83 : S1.1 83 = nI tk.length := (hG.1 83 (by omega)).trans q83
  have u5 : upd sv' 5 1 5 = 1 := upd_s
  have u0 : upd sv' 5 1 0 = nI i := (upd_n (by decide)).trans h0
  have u6 : upd sv' 5 1 6 = sv' 6 := upd_n (by decide)
  have u7 : upd sv' 5 1 7 = nI h7 := (upd_n (by decide)).trans h7'
  have u8 : upd sv' 5 1 8 = sv' 8 := upd_n (by decide)
  have hxx : x = nI (if sv' 6 = 0 then h7 else h7 + 10) := by
    rw [hx]
    unfold kf_code
    rw [h7']
    by_cases c : sv' 6 = 0
    · rw [if_pos c, if_pos c]
    · rw [if_neg c, if_neg c]
      exact nI_add h7 10
  have hbit : (if x < 10 then (0 : Int32) else 1 <<< (nI i &&& 31)) = kf_bit ((ss i).1, (ss i).2.1, (ss i).2.2.1, raw.filter (fun r => kf_all (ss i).2.1 r), upd sv' 5 1) := by
    have e : kf_bit ((ss i).1, (ss i).2.1, (ss i).2.2.1, raw.filter (fun r => kf_all (ss i).2.1 r), upd sv' 5 1) = if upd sv' 5 1 6 = 0 then (0 : Int32) else (1 : Int32) <<< (upd sv' 5 1 0 &&& 31) := rfl
    rw [e, hxx, u6, u0]
    by_cases c : sv' 6 = 0
    · rw [if_pos c, if_pos c, if_pos]
      exact nI_lt (b := 10) (by omega) (by decide)
    · rw [if_neg c, if_neg c, if_neg]
      exact nI_nlt (b := 10) (by omega) (by omega)
  have hmod : x - x / 10 * 10 = nI h7 := by
    rw [hxx, r_10 (by split <;> omega)]
    congr 1
    split <;> omega
  rw [hmod, hbit, g83, nI_clamp (n := tk.length) (by omega)]
  refine ⟨pk_in i 3 (by omega), pk_in tk.length 3 (by omega), ?_⟩
  refine hk _ (hB.fr (fun k hk => ?_) (fun k hk => ?_)) ⟨fun j hj => ?_, fun j hj => ?_, fun j hj => ?_, ?_, ⟨?_, fun k y hy => ?_⟩, ?_, ?_, ?_, ?_⟩ ?_
  · show upd (upd S1.1 78 _) 83 _ k = _
    rw [upd_n (by omega), upd_n (by omega)]
  · show qm_uA (qm_uA S1.2 56 _) 84 _ k = _
    rw [uA_n (by omega), uA_n (by omega)]
  · have hA7 : aSeat A' = aSeat A := hA.2.2.2.2.2.1
    have hA9 : aCond A' = aCond A := hA.2.2.2.2.2.2.2.1
    have ho : ∀ z, kf_own A' z = kf_own A z := fun z => by unfold kf_own; rw [hA9]
    have hs : ∀ z s, kf_sent A' z s = kf_sent A z s := fun z s => by unfold kf_sent; rw [ho]
    rw [hA7, ho, hs]
    by_cases e : j = i
    · subst e
      obtain ⟨z1, z2, z3, z4, _⟩ := qSt j hj
      rw [qkU_s]
      exact ⟨z1, z2, z3, z4, u0⟩
    · rw [qkU_n e]
      exact qSt j hj
  · show upd (S1.2 56) i 1 j = _
    by_cases e : j = i
    · subst e
      rw [upd_s]
      refine (b2_t ?_).symm
      unfold kf_taken
      rw [qkU_s]
      exact decide_eq_true (by show ¬ upd sv' 5 1 5 = 0; rw [u5]; decide)
    · rw [upd_n e, taken_n e, hG.2.1]
      exact qTk j hj
  · have hw5 : aWr A' = aWr A := hA.2.2.2.2.1
    have hq14 : aQ A' 14 = aQ A 14 := hA.1 14 (by decide)
    have hA9 : aCond A' = aCond A := hA.2.2.2.2.2.2.2.1
    have ho : ∀ z, kf_own A' z = kf_own A z := fun z => by unfold kf_own; rw [hA9]
    unfold cSeat
    rw [hw5, hq14, ho]
    by_cases e : j = i
    · subst e
      rw [qkU_s]
      dsimp only
      rw [u5, u6, u8]
      refine ⟨fun z => absurd z (by decide), fun _ => ⟨raw, ?_, ?_, h60⟩⟩
      · exact hraw.eq ((un2 (by decide)).trans (uA_n (by decide))) ((un2 (by decide)).trans (uA_n (by decide))) ((un2 (by decide)).trans (uA_n (by decide)))
      · rw [(qSt j hj).2.2.1]
    · rw [qkU_n e]
      obtain ⟨c1, c2⟩ := qSe j hj
      refine ⟨c1, fun z => ?_⟩
      obtain ⟨raw', r1, r2, r3⟩ := c2 z
      refine ⟨raw', ?_, r2, fun w => ?_⟩
      · exact (r1.g hG e).eq ((un2 (by decide)).trans (uA_n (by decide))) ((un2 (by decide)).trans (uA_n (by decide))) ((un2 (by decide)).trans (uA_n (by decide)))
      · obtain ⟨y1, y2⟩ := r3 w
        obtain ⟨_, x1, x2⟩ := hG.2.2.2.1 j e
        exact ⟨x1.trans y1, x2.trans y2⟩
  · exact hf
  · show nI tk.length + 1 = _
    rw [nI_1, List.length_append]
    rfl
  · show upd (S1.2 84) tk.length _ k = y
    rcases app_at hy with ⟨hne, hy⟩ | ⟨e, rfl⟩
    · rw [upd_n hne, hG.2.2.1]
      exact qtk k y hy
    · rw [e, upd_s, u0, u7]
  · show S1.1 78 ||| _ = _
    rw [hG.1 78 (by omega), q78]
    exact (open_upd hnt (by show ¬ upd sv' 5 1 5 = 0; rw [u5]; decide) hin).symm
  · exact (hG.1 52 (by omega)).trans q52
  · exact (hG.1 53 (by omega)).trans q53
  · exact (hG.1 54 (by omega)).trans q54
  · exact hG.1 0 (by omega)
