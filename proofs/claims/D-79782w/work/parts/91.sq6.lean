/-! SQ 6: rows added, changed, removed, counted; cells; stores, time -/
set_option maxRecDepth 100000
/-- all that holds of the component's state, within bounds -/
def qkI (T M : Nat) (A : qkA) : Prop := iR A ∧ iL A ∧ iF A ∧ iD A ∧ iB A ∧ iT T M A ∧ iE A
/-- a call of the reference, told by the component's -/
def kM (r : Int32 × Int32 × qkA) (v : qkAns) (K : Int32 → qm_S → Prop) : Prop := ∀ (b : Int32) (S' : qm_S), S'.1 0 = r.1 → (r.1 = 0 → b = r.2.1) → cC r.2.2 v S' → K b S'
def kN (A : qkA) (r : Int32 × Int32) (v : qkAns) (K : Int32 → qm_S → Prop) : Prop := ∀ (b : Int32) (S' : qm_S), S'.1 0 = r.1 → (r.1 = 0 → b = r.2) → cC A v S' → K b S'
theorem kM.bad {A : qkA} {v : qkAns} {S : qm_S} {e : Int32} {K : Int32 → qm_S → Prop} (hk : kM (e, 0, A) v K) (he : ¬ e = 0) (h : cC A v S) : K 0 (upd S.1 0 e, S.2) := hk 0 (upd S.1 0 e, S.2) us1 (fun z => absurd z he) h
theorem kN.bad {A : qkA} {v : qkAns} {S : qm_S} {e : Int32} {K : Int32 → qm_S → Prop} (hk : kN A (e, 0) v K) (he : ¬ e = 0) (h : cC A v S) : K 0 (upd S.1 0 e, S.2) := hk 0 (upd S.1 0 e, S.2) us1 (fun z => absurd z he) h
theorem d0 {p : Prop} [Decidable p] (h : ¬ p) : b2 (decide p) = 0 := b2_eq0.mpr (decide_eq_false h)
theorem d1 {p : Prop} [Decidable p] (h : p) : ¬ b2 (decide p) = 0 := b2_n0.mpr (decide_eq_true h)
theorem src_of {v : Int32} (h : ¬ (v < 0 ∨ ¬ v < 6)) : ∃ s, s < 6 ∧ v = nI s := by
  rw [not_or, Classical.not_not] at h
  exact ix_of 6 (by decide) h.1 h.2
theorem sto_of {v : Int32} (h : ¬ (v < 0 ∨ ¬ v < 3)) : ∃ s, s < 3 ∧ v = nI s := by
  rw [not_or, Classical.not_not] at h
  exact ix_of 3 (by decide) h.1 h.2
theorem col_of {v : Int32} {t : Nat} (h : ¬ (v < 0 ∨ ¬ v < kf_cols t)) : ∃ j, j < 4 ∧ (t = 1 → j < 2) ∧ v = nI j := by
  rw [not_or, Classical.not_not] at h
  unfold kf_cols at h
  by_cases ht : t = 1
  · rw [if_pos ht] at h
    obtain ⟨j, hj, e⟩ := ix_of 2 (by decide) h.1 h.2
    exact ⟨j, by omega, fun _ => hj, e⟩
  · rw [if_neg ht] at h
    obtain ⟨j, hj, e⟩ := ix_of 4 (by decide) h.1 h.2
    exact ⟨j, hj, fun z => absurd z ht, e⟩
theorem iR.len {A : qkA} (h : iR A) : ∀ q, q < 6 → (aRow A q).length ≤ 12 := fun q hq => (h q hq).1.1
theorem iT.due {T M : Nat} {A : qkA} (h : iT T M A) (hT : T ≤ 2 ^ 20) : ∀ m ∈ aMsg A, ¬ m.2.1 = -1 := fun m hm => by
  obtain ⟨d, hd, e⟩ := h.2.choose_spec.2.2.2.1 m hm
  rw [e]
  exact nI_nm1 (by omega)
theorem cC.wr {A : qkA} {v : qkAns} {S S' : qm_S} {rw' : Nat → List qkRow} {s : Nat} (h : cC A v S) (hf : wF A s S S') (hR : cR (sRow A rw') S') (hE : cE (kf_written (sRow A rw') s) S') : cC (kf_written (sRow A rw') s) v S' := by
  obtain ⟨hT, hL, _, hS, hD, _, hB, hA⟩ := h
  obtain ⟨f1, f2, f3, f4⟩ := hf
  refine ⟨⟨(f1 6 (by decide) (by decide)).trans hT.1, f2, (f1 8 (by decide) (by decide)).trans hT.2.2.1, (f1 37 (by decide) (by decide)).trans hT.2.2.2.1, (f1 38 (by decide) (by decide)).trans hT.2.2.2.2⟩, hL.fr fun k a b => f3 k (by omega) (by omega) (by omega) (by omega) (by omega), hR, fun q hq => ?_, hD.fr (fun k a b => f1 k (by omega) (by omega)) (fun k a b => f3 k (by omega) (by omega) (by omega) (by omega) (by omega)), hE, hB.fr (f1 85 (by decide) (by decide)) (fun k a b => f3 k (by omega) (by omega) (by omega) (by omega) (by omega)), hA.fr (fun k a b => f1 k (by omega) (by omega)) (f3 77 (by decide) (by decide) (by decide) (by decide) (by omega)) (f3 84 (by decide) (by decide) (by decide) (by decide) (by omega))⟩
  obtain ⟨s1, s2, s3, s4⟩ := hS q hq
  rw [f3 4 (by decide) (by decide) (by decide) (by decide) (by omega), f3 20 (by decide) (by decide) (by decide) (by decide) (by omega), f3 21 (by decide) (by decide) (by decide) (by decide) (by omega), f4]
  refine ⟨s1, ?_, s3, s4⟩
  by_cases e : q = s
  · subst e
    have : aWr (kf_written (sRow A rw') q) q = aWr A q ++ [aQ A 14 + 1] := qkU_s
    rw [upd_s, this]
    unfold kf_lw
    simp
  · have : aWr (kf_written (sRow A rw') s) q = aWr A q := qkU_n e
    rw [upd_n e, this]
    exact s2
theorem fits4 {t : Nat} {a b c d : Int32} : kf_fits t (kf_cell4 a b c d) = (kf_fit t (nI 0) a && (kf_fit t (nI 1) b && (kf_fit t (nI 2) c && (kf_fit t (nI 3) d && true)))) := rfl
theorem km_canAdd {A : qkA} {S : qm_S} {s : Nat} {a b c d : Int32} {K : Int32 → Prop} (hs : s < 6) (hR : cR A S) (hi : iR A) (h4 : s < 2 → S.2 4 s = aSr A s 4) (k2 : kf_fits (s / 2) (kf_cell4 a b c d) = false → K 2) (k3 : kf_fits (s / 2) (kf_cell4 a b c d) = true → kf_room A s a = false → K 3) (k0 : kf_fits (s / 2) (kf_cell4 a b c d) = true → kf_room A s a = true → K 0) : T_X8_canAdd (nI s) a b c d S K := by
  obtain ⟨hn, hRs⟩ := hR s hs
  obtain ⟨hrs, has, hadd, _⟩ := hi s hs
  have hlen12 := hrs.1
  unfold T_X8_canAdd
  have c0 := fm_cell (s := s) (c := 0) (v := a) hs (by decide)
  have c1 := fm_cell (s := s) (c := 1) (v := b) hs (by decide)
  have c2 := fm_cell (s := s) (c := 2) (v := c) hs (by decide)
  have c3 := fm_cell (s := s) (c := 3) (v := d) hs (by decide)
  have c0 : f_X8_isCell (nI s) 0 a = _ := c0
  have c1 : f_X8_isCell (nI s) 1 b = _ := c1
  have c2 : f_X8_isCell (nI s) 2 c = _ := c2
  have c3 : f_X8_isCell (nI s) 3 d = _ := c3
  rw [c0, c1, c2, c3, nI_clamp (n := s) (by omega), hn]
  rw [fits4] at k2 k3 k0
  refine bz (fun z0 => k2 (by rw [z0]; rfl)) (fun z0 => bz (fun z1 => k2 (by rw [z0, z1]; rfl)) (fun z1 => bz (fun z2 => k2 (by rw [z0, z1, z2]; rfl)) (fun z2 => bn (fun z3 => ?_) (fun z3 => k2 (by rw [z0, z1, z2, z3]; rfl)))))
  have hf : (kf_fit (s / 2) (nI 0) a && (kf_fit (s / 2) (nI 1) b && (kf_fit (s / 2) (nI 2) c && (kf_fit (s / 2) (nI 3) d && true)))) = true := by rw [z0, z1, z2, z3]; rfl
  have k3 := k3 hf
  have k0 := k0 hf
  unfold kf_room at k3 k0
  refine ⟨pk_in s 6 hs, pk_eq (aRow A s).length 12 (fun z => k3 ?_) (fun z => ?_)⟩
  · rw [z]; rfl
  · have hl : ¬ 12 ≤ (aRow A s).length := by have := hrs.1; omega
    have hld : decide (¬ 12 ≤ (aRow A s).length) = true := decide_eq_true hl
    rw [hld, Bool.true_and] at k3 k0
    refine pk_le s 1 (fun z' => ?_) (fun z' => ?_)
    · have hk : kf_hasKey (s / 2) = false := by
        unfold kf_hasKey
        simp only [decide_eq_false_iff_not, Classical.not_not]
        omega
      rw [hk] at k3 k0
      simp only [Bool.false_eq_true, if_false] at k3 k0
      obtain ⟨n, hn60, he, _⟩ := hadd (by omega)
      rw [h4 (by omega)]
      have hd : decide (¬ 60 ≤ aSr A s 4) = decide (¬ n = 60) := by
        rw [he]
        congr 1
        rw [eq_iff_iff]
        have : ((60 : Int32) ≤ nI n) ↔ 60 ≤ n := nI_leI (a := 60) (by decide) (by omega)
        rw [this]
        omega
      rw [hd] at k3 k0
      rw [he]
      refine ⟨fun q => absurd q (nI_ge (a := s) (b := 2) (by omega) (by decide)), fun _ => ⟨pk_in s 6 hs, pj_eq n 60 (fun q => k0 (decide_eq_true q)) (fun q => k3 (decide_eq_false (by simpa using q)))⟩⟩
    · have hk : kf_hasKey (s / 2) = true := by
        unfold kf_hasKey
        simp only [decide_eq_true_eq]
        omega
      rw [hk] at k3 k0
      simp only [if_true] at k3 k0
      refine km_placeOf hs hn hrs.1 hRs has ?_
      have hpn := pl_none (m := a) hrs.1
      refine ⟨fun q => k3 ?_, fun q => ⟨fun _ => k0 ?_, fun q' => absurd (nI_le (a := 2) (b := s) (by omega) (by omega)) q'⟩⟩
      · cases hh : kf_at (aRow A s) a with
        | none => exact absurd (hpn.mpr hh) q
        | some k => rfl
      · rw [hpn.mp q]; rfl
theorem keep4 {t : Nat} {a b c d : Int32} (hf : kf_fits t (kf_cell4 a b c d) = true) : kf_keep t (kf_cell4 a b c d) 4 = kf_cell4 a (kf_kept t (nI 1) b) c d ∧ ∀ l, kf_loss t (kf_cell4 a b c d) l 4 = l + (if kf_kept t (nI 1) b = b then 0 else 1) := by
  rw [fits4] at hf
  simp only [Bool.and_eq_true, and_true] at hf
  obtain ⟨_, _, h2, h3⟩ := hf
  have k0 : kf_kept t (nI 0) a = a := kept_z (Or.inr rfl)
  have zz : ∀ j v, j = 2 ∨ j = 3 → kf_fit t (nI j) v = true → kf_kept t (nI j) v = v := by
    intro j v hj hv
    by_cases ht : t = 1
    · subst ht
      have : v = 0 := by
        unfold kf_fit at hv
        rcases hj with rfl | rfl
        · simpa [show ¬ nI 2 = (0 : Int32) by decide, show ¬ nI 2 = (1 : Int32) by decide] using hv
        · simpa [show ¬ nI 3 = (0 : Int32) by decide, show ¬ nI 3 = (1 : Int32) by decide] using hv
      subst this
      rcases hj with rfl | rfl <;> decide
    · exact kept_z (Or.inl ht)
  have k2 := zz 2 c (Or.inl rfl) h2
  have k3 := zz 3 d (Or.inr rfl) h3
  constructor
  · funext j
    unfold kf_keep
    by_cases hj : j < 4
    · rw [if_pos hj]
      have : j = 0 ∨ j = 1 ∨ j = 2 ∨ j = 3 := by omega
      rcases this with rfl | rfl | rfl | rfl
      · exact k0
      · rfl
      · exact k2
      · exact k3
    · rw [if_neg hj]
      unfold kf_cell4
      simp [show ¬ j = 0 by omega, show ¬ j = 1 by omega, show ¬ j = 2 by omega, show ¬ j = 3 by omega]
  · intro l
    show (((l + (if kf_kept t (nI 0) a = a then 0 else 1)) + (if kf_kept t (nI 1) b = b then 0 else 1)) + (if kf_kept t (nI 2) c = c then 0 else 1)) + (if kf_kept t (nI 3) d = d then 0 else 1) = _
    rw [if_pos k0, if_pos k2, if_pos k3, Int32.add_zero, Int32.add_zero, Int32.add_zero]
theorem at_fresh {rows : List qkRow} {m : Int32} (h : (kf_at rows m).isNone = true) : ∀ r ∈ rows, ¬ r.1 = m := at_none.mp (Option.isNone_iff_eq_none.mp h)
theorem mark_fresh {A : qkA} {s : Nat} {a : Int32} (hs : s < 6) (hi : iR A) (hr : kf_room A s a = true) : ∀ r ∈ aRow A s, ¬ r.1 = kf_mark A s a := by
  unfold kf_room at hr
  unfold kf_mark
  rw [Bool.and_eq_true] at hr
  by_cases hk : kf_hasKey (s / 2) = true
  · rw [if_pos hk] at hr ⊢
    exact at_fresh hr.2
  · rw [if_neg hk]
    have hs2 : s < 2 := by
      unfold kf_hasKey at hk
      simp only [decide_eq_true_eq, Classical.not_not] at hk
      omega
    obtain ⟨n, hn, e, hm⟩ := (hi s hs).2.2.1 hs2
    intro r hr' z
    obtain ⟨m, hm1, hm2⟩ := hm r hr'
    rw [e, hm2] at z
    have := (nI_eq (by omega) (by omega)).mp z
    omega
theorem room_len {A : qkA} {s : Nat} {a : Int32} (hr : kf_room A s a = true) : (aRow A s).length ≤ 11 := by
  unfold kf_room at hr
  rw [Bool.and_eq_true] at hr
  have := of_decide_eq_true hr.1
  omega
theorem km_adds {A : qkA} {v : qkAns} {S : qm_S} {s T M : Nat} {a b c d : Int32} {K : Int32 → qm_S → Prop} (hs : s < 6) (h : cC A v S) (hi : qkI T M A) (hTM : T ≤ 2 ^ 20 ∧ M ≤ 2 ^ 20) (hf : kf_fits (s / 2) (kf_cell4 a b c d) = true) (hr : kf_room A s a = true) (hk : ∀ S' : qm_S, S'.1 0 = S.1 0 → (∀ k, 85 ≤ k → S'.1 k = S.1 k ∧ S'.2 k = S.2 k) → cC (kf_written (kf_add1 A s a (kf_cell4 a b c d)) s) v S' → K (kf_mark A s a) S') : T_X8_adds (nI s) a b c d S K := by
  obtain ⟨iR', iL', _, _, _, iT', iE'⟩ := hi
  obtain ⟨hT, hL, hR, hS, hD, hE, hB, hA⟩ := h
  obtain ⟨e4, el⟩ := keep4 hf
  have hfit1 : kf_fit (s / 2) (nI 1) b = true := by
    rw [fits4] at hf
    simp only [Bool.and_eq_true, and_true] at hf
    exact hf.2.1
  unfold T_X8_adds
  rw [nI_clamp (n := s) (by omega)]
  refine ⟨⟨fun _ => pk_in s 6 hs, fun _ => trivial⟩, pk_in s 6 hs, ?_⟩
  refine km_kept (c := 1) hs (Or.inl (by decide)) hfit1 (fun S1 f2 f1 f6 => ?_)
  have hmk : (if nI s ≤ 1 then S.2 4 s else a) = kf_mark A s a := by
    unfold kf_mark kf_hasKey
    by_cases z : s ≤ 1
    · rw [if_pos (le_1 z), if_neg (by simp only [decide_eq_true_eq, Classical.not_not]; omega)]
      exact (hS s hs).1 (by omega)
    · rw [if_neg (nle_1 z hs), if_pos (by simp only [decide_eq_true_eq]; omega)]
  rw [hmk]
  have g2 : ∀ k, k ≠ 4 → S1.2 k = S.2 k := fun k z => by rw [f2]; exact un2 z
  have g24 : S1.2 4 = upd (S.2 4) s (S.2 4 s + (if nI s ≤ 1 then 1 else 0)) := by rw [f2]; exact us2
  have h1 : cC (sSr (sQ A (upd (aQ A) 13 (kf_loss (s / 2) (kf_cell4 a b c d) (aQ A 13) 4))) (qkU (aSr A) s (upd (aSr A s) 4 (aSr A s 4 + 1)))) v S1 := by
    refine ⟨⟨?_, (f1 7 (by decide)).trans hT.2.1, (f1 8 (by decide)).trans hT.2.2.1, (f1 37 (by decide)).trans hT.2.2.2.1, (f1 38 (by decide)).trans hT.2.2.2.2⟩, hL.fr fun k _ _ => g2 k (by omega), hR.fr (g2 1 (by decide)) (g2 2 (by decide)) (g2 3 (by decide)), fun q hq => ?_, hD.fr (fun k _ _ => f1 k (by omega)) (fun k _ _ => g2 k (by omega)), hE.fr (f1 39 (by decide)) (fun k _ _ => g2 k (by omega)), hB.fr (f1 85 (by decide)) (fun k _ _ => g2 k (by omega)), hA.fr (fun k _ _ => f1 k (by omega)) (g2 77 (by decide)) (g2 84 (by decide))⟩
    · rw [f6, el]
      show S.1 6 + _ = _
      rw [hT.1]
      rfl
    · obtain ⟨s1, s2, s3, s4⟩ := hS q hq
      rw [g2 5 (by decide), g2 20 (by decide), g2 21 (by decide), g24]
      by_cases e : q = s
      · subst e
        have hw : aSr (sSr (sQ A (upd (aQ A) 13 (kf_loss (q / 2) (kf_cell4 a b c d) (aQ A 13) 4))) (qkU (aSr A) q (upd (aSr A q) 4 (aSr A q 4 + 1)))) q = upd (aSr A q) 4 (aSr A q 4 + 1) := qkU_s
        rw [hw]
        refine ⟨fun z => ?_, s2, s3, s4⟩
        rw [upd_s, upd_s, if_pos (le_1 (by omega)), s1 z]
      · have hw : aSr (sSr (sQ A (upd (aQ A) 13 (kf_loss (s / 2) (kf_cell4 a b c d) (aQ A 13) 4))) (qkU (aSr A) s (upd (aSr A s) 4 (aSr A s 4 + 1)))) q = aSr A q := qkU_n e
        rw [hw, upd_n e]
        exact ⟨s1, s2, s3, s4⟩
  refine km_inserts (A := sSr (sQ A (upd (aQ A) 13 (kf_loss (s / 2) (kf_cell4 a b c d) (aQ A 13) 4))) (qkU (aSr A) s (upd (aSr A s) 4 (aSr A s 4 + 1)))) (T := T) (M := M) hs h1.1.2.1 h1.1.2.2.1 h1.2.1 h1.2.2.2.2.2.1 h1.2.2.1 iE' iT' hTM iL' (room_len (A := A) hr) iR'.len (iR' s hs).2.1 (mark_fresh (A := A) hs iR' hr) (fun S' hw hR' hE' => ?_)
  have hfin := h1.wr hw hR' hE'
  refine hk S' ?_ (fun k hk85 => ⟨?_, ?_⟩) ?_
  · rw [hw.1 0 (by decide) (by decide), f1 0 (by decide)]
  · rw [hw.1 k (by omega) (by omega), f1 k (by omega)]
  · rw [hw.2.2.1 k (by omega) (by omega) (by omega) (by omega) (by omega), g2 k (by omega)]
  · rw [← e4] at hfin
    exact hfin
theorem km_add {A : qkA} {v : qkAns} {S : qm_S} {T M : Nat} {x a b c d : Int32} {K : Int32 → qm_S → Prop} (h : cC A v S) (hi : qkI T M A) (hTM : T ≤ 2 ^ 20 ∧ M ≤ 2 ^ 20) (hk : kM (kf_add A x a b c d) v K) : T_X8_add x a b c d S K := by
  unfold T_X8_add
  intro J hJ
  rw [fm_src]
  unfold kf_add at hk
  by_cases c1 : x < 0 ∨ ¬ x < 6
  · rw [if_pos c1] at hk
    refine ⟨fun z => absurd (d0 (fun z => z c1)) z, fun _ => hJ 1 ⟨fun z => absurd z (by decide), fun _ => hk.bad (by decide) h⟩⟩
  rw [if_neg c1] at hk
  obtain ⟨s, hs, rfl⟩ := src_of c1
  rw [nI_clamp (n := s) (by omega)] at hk
  refine ⟨fun _ => ?_, fun z => absurd z (d1 c1)⟩
  refine km_canAdd hs h.2.2.1 hi.1 (h.2.2.2.1 s hs).1 (fun z => ?_) (fun z z' => ?_) (fun z z' => ?_)
  · rw [if_pos z] at hk
    exact hJ 2 ⟨fun q => absurd q (by decide), fun _ => hk.bad (by decide) h⟩
  · rw [if_neg (by rw [z]; decide), if_pos z'] at hk
    exact hJ 3 ⟨fun q => absurd q (by decide), fun _ => hk.bad (by decide) h⟩
  · rw [if_neg (by rw [z]; decide), if_neg (by rw [z']; decide)] at hk
    refine hJ 0 ⟨fun _ => ?_, fun q => absurd (Int32.le_refl 0) q⟩
    exact km_adds (S := (upd S.1 0 0, S.2)) hs h hi hTM z z' (fun S' h0 _ hC => hk _ S' h0 (fun _ => rfl) hC)
