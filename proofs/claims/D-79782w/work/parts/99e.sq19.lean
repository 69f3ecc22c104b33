/-! SQ 19: what holds all along, through the taking of a seat; a seat bound, joined -/
set_option maxRecDepth 100000
theorem qkI.gd {T M : Nat} {A : qkA} (h : qkI T M A) : qkGd A := ⟨fun s hs => (h.1 s hs).1, fun l hl => (h.2.1 l hl).2.2.1, h.2.2.2.2.2.2.1, fun e he => (h.2.2.2.2.2.2.2 e he).2.2⟩
theorem drop1_mem {c : List qkEnt} {E : qkEnt} (h : E ∈ kf_drop1 c) : E ∈ c := by
  unfold kf_drop1 at h
  by_cases q : c.length = 6
  · rw [if_pos q] at h
    exact List.mem_of_mem_eraseIdx h
  · rw [if_neg q] at h
    exact h
theorem drop1_len {c : List qkEnt} (h : c.length ≤ 6) : (kf_drop1 c).length ≤ 5 := by
  unfold kf_drop1
  by_cases q : c.length = 6
  · rw [if_pos q, List.length_eraseIdx_of_lt (by omega)]
    omega
  · rw [if_neg q]
    omega
theorem qkI.enter {T M src : Nat} {A : qkA} {sent : List qkC} {rows : List qkRow} (h : qkI T M A) (h6 : src < 6) (hs : sent.length ≤ 4) (hr : qkRs rows) : qkI T M (kf_enter A src sent rows) := by
  obtain ⟨hR, hL, hF, hD, hB, ⟨ht, m, hm, e, hw, hmsg, hent, hmo⟩, hE⟩ := h
  have hc : aCache (kf_enter A src sent rows) = kf_drop1 (aCache A) ++ [(src, sent, rows, aQ A 15, aQ A 14)] := rfl
  refine ⟨fun s h6' => ?_, hL, hF, hD, hB, ⟨ht, m, hm, e, hw, hmsg, fun E hE' => ?_, hmo⟩, ?_, fun E hE' => ?_⟩
  · obtain ⟨r1, r2, r3, r4⟩ := hR s h6'
    refine ⟨r1, r2, fun z => ?_, ?_⟩
    · obtain ⟨n, n1, n2, n3⟩ := r3 z
      refine ⟨n, n1, ?_, n3⟩
      by_cases q : s = src
      · subst q
        have hw : aSr (kf_enter A s sent rows) s = upd (aSr A s) 5 (if sent.length = 0 then nI rows.length else aSr A s 5) := qkU_s
        rw [hw, upd_n (by decide)]
        exact n2
      · have hw : aSr (kf_enter A src sent rows) s = aSr A s := qkU_n q
        rw [hw]
        exact n2
    · by_cases q : s = src
      · subst q
        have hw : aSr (kf_enter A s sent rows) s = upd (aSr A s) 5 (if sent.length = 0 then nI rows.length else aSr A s 5) := qkU_s
        rw [hw, upd_s]
        by_cases z : sent.length = 0
        · rw [if_pos z]
          exact ⟨_, hr.1, rfl⟩
        · rw [if_neg z]
          exact r4
      · have hw : aSr (kf_enter A src sent rows) s = aSr A s := qkU_n q
        rw [hw]
        exact r4
  · rw [hc] at hE'
    rcases List.mem_append.mp hE' with h | h
    · exact hent E (drop1_mem h)
    · rw [List.mem_singleton] at h
      subst h
      exact ⟨m, Nat.le_refl _, e⟩
  · rw [hc, List.length_append]
    have := drop1_len hE.1
    simp only [List.length_cons, List.length_nil]
    omega
  · rw [hc] at hE'
    rcases List.mem_append.mp hE' with h | h
    · exact hE.2 E (drop1_mem h)
    · rw [List.mem_singleton] at h
      subst h
      exact ⟨h6, hs, hr⟩
theorem qkI.scan {T M src : Nat} {b d : Int32} {A : qkA} {sent : List qkC} {sv f : Nat → Int32} (h : qkI T M A) (h6 : src < 6) (hs : sent.length ≤ 4) (hT : T + 120 ≤ 2 ^ 20) : qkI (T + 120) M (kf_scan A src sent sv f b d).1 := by
  have hi5 : qkI (T + 120) M (kf_ship A src sent [] (upd sv 6 0) f b d (-1) []).2.1 := qkI.req (by omega) 3 T A f h (by omega)
  have hrs := (scan_gd (sent := sent) (sv := sv) (f := f) (b := b) (d := d) h.gd h6).2.1
  unfold kf_scan at hrs ⊢
  by_cases c : (kf_ship A src sent [] (upd sv 6 0) f b d (-1) []).1 = 0
  · rw [if_pos c] at hrs ⊢
    by_cases c2 : (kf_ship A src sent [] (upd sv 6 0) f b d (-1) []).2.2.2.1 6 = 0
    · rw [if_pos c2] at hrs ⊢
      exact hi5.enter h6 hs hrs
    · rw [if_neg c2]
      exact hi5
  · rw [if_neg c]
    exact hi5
theorem qkI.bl {M src : Nat} {sent : List qkC} {ks : List Int32} {col b d most : Int32} (h6 : src < 6) : ∀ (n k T : Nat) (A : qkA) (f sv : Nat → Int32) (rows : List qkRow), qkI T M A → T + 120 * n ≤ 2 ^ 20 → qkI (T + 120 * n) M (kf_bl src sent ks col b d most n k A f sv rows).2.1 := by
  intro n
  induction n with
  | zero => intro k T A f sv rows h _; exact h
  | succ n ih =>
    intro k T A f sv rows h hT
    have hi5 : qkI (T + 120) M (kf_bship src sent ks col b d k A f sv rows).2.1 := qkI.req (by omega) 3 T A f h (by omega)
    rw [kf_bl]
    split
    · split
      · exact (ih (k + 1) (T + 120) _ _ _ _ hi5 (by omega)).le (by omega) (Nat.le_refl _)
      · exact hi5.le (by omega) (Nat.le_refl _)
    · exact hi5.le (by omega) (Nat.le_refl _)
/-! the moment of the rows, and how they came -/
theorem ship_8 {A : qkA} {src : Nat} {sent : List qkC} {rows : List qkRow} {sv f : Nat → Int32} {b d col : Int32} {ks : List Int32} : (kf_ship A src sent rows sv f b d col ks).2.2.2.1 8 = if (kf_ship A src sent rows sv f b d col ks).1 = 0 then aQ A 14 else sv 8 := by
  unfold kf_ship
  by_cases c : (kf_req (src / 2) b d 3 A f).1 = 0
  · simp only [c, if_true]
    rw [upd_s]
  · simp only [c, if_false]
    rw [upd_n (by decide)]
theorem scan_8 {A : qkA} {src : Nat} {sent : List qkC} {sv f : Nat → Int32} {b d : Int32} (h : (kf_scan A src sent sv f b d).2.2.1 6 = 0 ∨ sv 8 = aQ A 14) : (kf_scan A src sent sv f b d).2.2.1 8 = aQ A 14 := by
  have h8 := ship_8 (A := A) (src := src) (sent := sent) (rows := []) (sv := upd sv 6 0) (f := f) (b := b) (d := d) (col := -1) (ks := [])
  unfold kf_scan at h ⊢
  by_cases c : (kf_ship A src sent [] (upd sv 6 0) f b d (-1) []).1 = 0
  · rw [if_pos c] at h ⊢
    rw [if_pos c] at h8
    by_cases c2 : (kf_ship A src sent [] (upd sv 6 0) f b d (-1) []).2.2.2.1 6 = 0
    · rw [if_pos c2]; exact h8
    · rw [if_neg c2]; exact h8
  · rw [if_neg c] at h ⊢
    rw [if_neg c] at h8
    rcases h with h | h
    · exact absurd (show (1 : Int32) = 0 from h) (by decide)
    · have e : upd (kf_ship A src sent [] (upd sv 6 0) f b d (-1) []).2.2.2.1 6 1 8 = sv 8 := by rw [upd_n (by decide), h8, upd_n (by decide)]
      exact Eq.trans e h
theorem bl_8 {src : Nat} {sent : List qkC} {ks : List Int32} {col b d most m : Int32} : ∀ {n k : Nat} {A : qkA} {f sv : Nat → Int32} {rows : List qkRow}, aQ A 14 = m → sv 8 = m → (kf_bl src sent ks col b d most n k A f sv rows).2.2.2.1 8 = m ∧ aQ (kf_bl src sent ks col b d most n k A f sv rows).2.1 14 = m := by
  intro n
  induction n with
  | zero => intro k A f sv rows h1 h2; exact ⟨h2, h1⟩
  | succ n ih =>
    intro k A f sv rows h1 h2
    have tm : qkTm A (kf_bship src sent ks col b d k A f sv rows).2.1 := ship_tm
    have g1 : aQ (kf_bship src sent ks col b d k A f sv rows).2.1 14 = m := (tm.1 14 (by decide)).trans h1
    have g2 : (kf_bship src sent ks col b d k A f sv rows).2.2.2.1 8 = m := by
      unfold kf_bship
      rw [ship_8]
      split
      · exact h1
      · exact h2
    rw [kf_bl]
    split
    · split
      · exact ih g1 g2
      · dsimp only
        exact ⟨by rw [upd_n (by decide)]; exact g2, g1⟩
    · dsimp only
      exact ⟨by rw [upd_n (by decide)]; exact g2, g1⟩
theorem bl_7 {src : Nat} {sent : List qkC} {ks : List Int32} {col b d most : Int32} : ∀ {n k : Nat} {A : qkA} {f sv : Nat → Int32} {rows : List qkRow}, sv 7 = 1 → ((kf_bl src sent ks col b d most n k A f sv rows).2.2.2.1 7 = 1 ∨ (kf_bl src sent ks col b d most n k A f sv rows).2.2.2.1 7 = 2) := by
  intro n
  induction n with
  | zero => intro k A f sv rows h; exact Or.inl h
  | succ n ih =>
    intro k A f sv rows h
    have g : (kf_bship src sent ks col b d k A f sv rows).2.2.2.1 7 = 1 := (ship_sv (by decide) (by decide) (by decide)).trans h
    rw [kf_bl]
    split
    · split
      · exact ih g
      · exact Or.inr (by dsimp only; exact upd_s)
    · dsimp only
      exact Or.inl (by rw [upd_n (by decide)]; exact g)
theorem fin_eq {src : Nat} {sent : List qkC} {b d : Int32} {r : Nat × qkA × (Nat → Int32) × (Nat → Int32) × List qkRow} : kf_fin src sent b d r = if r.1 = 0 then kf_scan r.2.1 src sent r.2.2.2.1 r.2.2.1 b d else r.2 := rfl
theorem qkI.fin {T M src : Nat} {b d : Int32} {sent : List qkC} {r : Nat × qkA × (Nat → Int32) × (Nat → Int32) × List qkRow} (h : qkI T M r.2.1) (h6 : src < 6) (hs : sent.length ≤ 4) (hT : T + 120 ≤ 2 ^ 20) : qkI (T + 120) M (kf_fin src sent b d r).1 := by
  rw [fin_eq]
  split
  · exact h.scan h6 hs hT
  · exact h.le (by omega) (Nat.le_refl _)
theorem fin_8 {src : Nat} {sent : List qkC} {b d m : Int32} {r : Nat × qkA × (Nat → Int32) × (Nat → Int32) × List qkRow} (h1 : aQ r.2.1 14 = m) (h2 : r.2.2.2.1 8 = m) : (kf_fin src sent b d r).2.2.1 8 = m := by
  rw [fin_eq]
  split
  · rw [scan_8 (Or.inr (h2.trans h1.symm))]
    exact h1
  · exact h2
theorem fin_k {src k : Nat} {sent : List qkC} {b d : Int32} {r : Nat × qkA × (Nat → Int32) × (Nat → Int32) × List qkRow} (h6 : k ≠ 6) (h8 : k ≠ 8) (h9 : k ≠ 9) : (kf_fin src sent b d r).2.2.1 k = r.2.2.2.1 k := by
  rw [fin_eq]
  split
  · exact scan_sv h6 h8 h9
  · rfl
theorem km_binds {A : qkA} {S : qm_S} {T M i src q : Nat} {b d : Int32} {ks : List Int32} {sv f : Nat → Int32} {K : Int32 → qm_S → Prop} (h : qkB A S) (hi : qkI T M A) (hTM : T + 600 ≤ 2 ^ 20 ∧ M ≤ 2 ^ 20) (hs : (aSeat A)[i]? = some (nI src)) (h6 : src < 6) (hq4 : q < 4) (hd : ¬ d = -1) (hks : ks.Pairwise (· < ·)) (hk12 : ks.length ≤ 12) (hb : S.1 52 = b) (hd' : S.1 54 = d) (hsp : S.1 55 = sv 9) (hf : rF f S) (h63 : S.1 63 = nI ks.length) (hK : rKeys S ks) (hs6 : sv 6 = 0)
    (hk : ∀ S' : qm_S, qkB (kf_fin src (kf_sent A (nI i) src) b d (kf_bl src (kf_sent A (nI i) src) ks (nI q) b d (kf_scost A src (kf_sent A (nI i) src).length) ((ks.length + 3) / 4) 0 A f (upd (upd sv 7 1) 8 (aQ A 14)) [])).1 S' → qF i S S' → rSeat S' i (kf_fin src (kf_sent A (nI i) src) b d (kf_bl src (kf_sent A (nI i) src) ks (nI q) b d (kf_scost A src (kf_sent A (nI i) src).length) ((ks.length + 3) / 4) 0 A f (upd (upd sv 7 1) 8 (aQ A 14)) [])).2.2.2 → rF (kf_fin src (kf_sent A (nI i) src) b d (kf_bl src (kf_sent A (nI i) src) ks (nI q) b d (kf_scost A src (kf_sent A (nI i) src).length) ((ks.length + 3) / 4) 0 A f (upd (upd sv 7 1) 8 (aQ A 14)) [])).2.1 S' → K (kf_code (kf_fin src (kf_sent A (nI i) src) b d (kf_bl src (kf_sent A (nI i) src) ks (nI q) b d (kf_scost A src (kf_sent A (nI i) src).length) ((ks.length + 3) / 4) 0 A f (upd (upd sv 7 1) 8 (aQ A 14)) [])).2.2.1) S') : T_X8_binds (nI i) (nI q) S K := by
  have iD' := hi.2.2.2.1
  have hil := (List.getElem?_eq_some_iff.mp hs).1
  have h3 := iD'.1.1
  have h23 := h.2.2.2.2.1.1.2 i _ hs
  obtain ⟨_, _, _, _, _, _, _, _, _, g18, g19⟩ := h.2.1 (src / 2) (by omega)
  unfold T_X8_binds
  rw [nI_clamp (n := i) (by omega), h23, fm_half h6, nI_clamp (n := src / 2) (by omega), g18, g19]
  refine ⟨pk_in i 3 (by omega), pk_in (src / 2) 3 (by omega), km_guess h.2.2.2.2.1 iD' hs h6 (h.2.2.2.1 src h6).2.2.2 (hi.1 src h6).2.2.2 ⟨pk_in (src / 2) 3 (by omega), pk_in i 3 (by omega), ?_⟩⟩
  have hsc : kf_fee (src / 2) + kf_guess (aSr A src 5) (kf_sent A (nI i) src).length * kf_freight (src / 2) = kf_scost A src (kf_sent A (nI i) src).length := by
    unfold kf_scost
    rw [Int32.mul_comm]
  rw [hsc]
  intro X hX
  have hB0 : qkB A (S.1, qm_uA S.2 57 (upd (S.2 57) i 0)) := h.fr (fun _ _ => rfl) (fun k hk => un2 (by omega))
  have qF0 : qF i S (S.1, qm_uA S.2 57 (upd (S.2 57) i 0)) := ⟨fun _ _ _ _ _ _ _ _ => rfl, fun k _ a _ _ => un2 a, fun j hj => upd_n hj, fun _ _ => ⟨rfl, fun _ _ => rfl⟩⟩
  have := km_bl (M := M) (i := i) (src := src) (q := q) (b := b) (d := d) (most := kf_scost A src (kf_sent A (nI i) src).length) (ks := ks) (sent := kf_sent A (nI i) src) (K := K) (X := X) h6 hq4 (by omega) hks hk12 hd hTM.2 hX ((ks.length + 3) / 4) 0 T A f (upd (upd sv 7 1) 8 (aQ A 14)) [] (S.1, qm_uA S.2 57 (upd (S.2 57) i 0)) rfl hB0 hi (by omega) hs rfl ⟨upd_s, Nat.zero_le _, fun k r hr => by simp [kf_order] at hr⟩ (Nat.zero_le _) (by rw [upd_n (by decide), upd_n (by decide)]; exact hsp) hf h63 (fun k x hx => (congrFun (un2 (show (64 : Nat) ≠ 57 by decide)) k).trans (hK k x hx)) hb hd' (Or.inl (by rw [upd_n (by decide), upd_n (by decide)]; exact hs6)) (by rw [upd_n (by decide), upd_s]) (fun S' g1 g2 g3 g4 => hk S' g1 (qF0.tr g2) g3 g4)
  rw [upd_n (by decide), upd_n (by decide), hs6] at this
  exact this
