/-! SQ 7: change, remove, count, cell; stores, the time -/
set_option maxRecDepth 100000
theorem km_canChange {A : qkA} {S : qm_S} {s : Nat} {m c x : Int32} {K : Int32 → Prop} (hs : s < 6) (hR : cR A S) (hi : iR A) (k1 : (kf_at (aRow A s) m = none ∨ (c < 0 ∨ ¬ c < kf_cols (s / 2))) → K 1) (k2 : ∀ (k j : Nat), kf_at (aRow A s) m = some k → ¬ (c < 0 ∨ ¬ c < kf_cols (s / 2)) → j < 4 → c = nI j → ((decide (0 < c) || !kf_hasKey (s / 2)) && kf_fit (s / 2) c x) = false → K 2) (k0 : ∀ (k j : Nat), kf_at (aRow A s) m = some k → ¬ (c < 0 ∨ ¬ c < kf_cols (s / 2)) → j < 4 → (s / 2 = 1 → j < 2) → c = nI j → ((decide (0 < c) || !kf_hasKey (s / 2)) && kf_fit (s / 2) c x) = true → K 0) : T_X8_canChange (nI s) m c x S K := by
  obtain ⟨hn, hRs⟩ := hR s hs
  obtain ⟨hrs, has, _⟩ := hi s hs
  unfold T_X8_canChange
  refine km_placeOf hs hn hrs.1 hRs has ?_
  have hpn := pl_none (m := m) hrs.1
  rw [fm_col hs]
  refine ⟨fun z => k1 (Or.inl (hpn.mp z)), fun z => ?_⟩
  obtain ⟨k, hk⟩ : ∃ k, kf_at (aRow A s) m = some k := by
    cases hh : kf_at (aRow A s) m with
    | none => exact absurd (hpn.mpr hh) z
    | some k => exact ⟨k, rfl⟩
  by_cases cc : c < 0 ∨ ¬ c < kf_cols (s / 2)
  · exact ⟨fun q => absurd (d0 (fun z => z cc)) q, fun _ => k1 (Or.inr cc)⟩
  refine ⟨fun _ => ?_, fun q => absurd q (d1 cc)⟩
  obtain ⟨j, hj, hj2, rfl⟩ := col_of cc
  have k2 := k2 k j hk cc hj rfl
  have k0 := k0 k j hk cc hj hj2 rfl
  rw [fm_cell hs hj]
  have hp : decide ((0 : Int32) < nI j) = decide (¬ j = 0) := by
    congr 1
    rw [eq_iff_iff]
    have : ((0 : Int32) < nI j) ↔ 0 < j := nI_ltI (a := 0) (by decide) (by omega)
    rw [this]
    omega
  rw [hp] at k2 k0
  refine pk_le s 1 (fun z' => ?_) (fun z' => ?_)
  · have hkk : kf_hasKey (s / 2) = false := by
      unfold kf_hasKey
      simp only [decide_eq_false_iff_not, Classical.not_not]
      omega
    rw [hkk, Bool.not_false, Bool.or_true, Bool.true_and] at k2 k0
    exact bn (fun b => k0 b) (fun b => k2 b)
  · have hkk : kf_hasKey (s / 2) = true := by
      unfold kf_hasKey
      simp only [decide_eq_true_eq]
      omega
    rw [hkk, Bool.not_true, Bool.or_false] at k2 k0
    refine pk_eq j 0 (fun q => k2 (by rw [q]; rfl)) (fun q => ?_)
    rw [decide_eq_true q, Bool.true_and] at k2 k0
    exact bn (fun b => k0 b) (fun b => k2 b)
theorem km_chg {A : qkA} {v : qkAns} {S : qm_S} {s T M k j : Nat} {m x : Int32} {r : qkRow} {K : Int32 → qm_S → Prop} (hs : s < 6) (h : cC A v S) (hi : qkI T M A) (hTM : T ≤ 2 ^ 20 ∧ M ≤ 2 ^ 20) (hat : kf_at (aRow A s) m = some k) (hr : (aRow A s)[k]? = some r) (hj : j < 4) (hj2 : s / 2 = 1 → j < 2) (hf : kf_fit (s / 2) (nI j) x = true) (hk : ∀ S' : qm_S, S'.1 0 = S.1 0 → (∀ k, 85 ≤ k → S'.1 k = S.1 k ∧ S'.2 k = S.2 k) → cC (kf_chg A s k r (nI j) x) v S' → K (r.2 j) S') : T_X8_kept (nI s) (nI j) x S (fun r7 S9 => T_X8_puts (nI s) m (nI j) r7 S9 (fun r10 S12 => K r10 S12)) := by
  obtain ⟨iR', iL', _, _, _, iT', iE'⟩ := hi
  obtain ⟨hT, hL, hR, hS, hD, hE, hB, hA⟩ := h
  refine km_kept (c := j) hs (by by_cases q : s / 2 = 1; exact Or.inl (hj2 q); exact Or.inr q) hf (fun S1 f2 f1 f6 => ?_)
  have h1 : cC (kf_q A 13 (aQ A 13 + (if kf_kept (s / 2) (nI j) x = x then 0 else 1))) v S1 := by
    refine ⟨⟨?_, (f1 7 (by decide)).trans hT.2.1, (f1 8 (by decide)).trans hT.2.2.1, (f1 37 (by decide)).trans hT.2.2.2.1, (f1 38 (by decide)).trans hT.2.2.2.2⟩, hL.fr fun k _ _ => by rw [f2], hR.fr (by rw [f2]) (by rw [f2]) (by rw [f2]), hS.fr (by rw [f2]) (by rw [f2]) (by rw [f2]) (by rw [f2]), hD.fr (fun k _ _ => f1 k (by omega)) (fun k _ _ => by rw [f2]), hE.fr (f1 39 (by decide)) (fun k _ _ => by rw [f2]), hB.fr (f1 85 (by decide)) (fun k _ _ => by rw [f2]), hA.fr (fun k _ _ => f1 k (by omega)) (by rw [f2]) (by rw [f2])⟩
    rw [f6, hT.1]
    rfl
  refine km_puts (A := kf_q A 13 (aQ A 13 + (if kf_kept (s / 2) (nI j) x = x then 0 else 1))) (T := T) (M := M) hs h1.1.2.1 h1.1.2.2.1 h1.2.1 h1.2.2.2.2.2.1 h1.2.2.1 iE' iT' hTM iL' iR'.len (iR' s hs).2.1 hat hr hj (fun S' hw hR' hE' => ?_)
  refine hk S' ?_ (fun k hk85 => ⟨?_, ?_⟩) (h1.wr hw hR' hE')
  · rw [hw.1 0 (by decide) (by decide), f1 0 (by decide)]
  · rw [hw.1 k (by omega) (by omega), f1 k (by omega)]
  · rw [hw.2.2.1 k (by omega) (by omega) (by omega) (by omega) (by omega), f2]
theorem km_change {A : qkA} {v : qkAns} {S : qm_S} {T M : Nat} {x m c y : Int32} {K : Int32 → qm_S → Prop} (h : cC A v S) (hi : qkI T M A) (hTM : T ≤ 2 ^ 20 ∧ M ≤ 2 ^ 20) (hk : kM (kf_change A x m c y) v K) : T_X8_change x m c y S K := by
  unfold T_X8_change
  intro J hJ
  rw [fm_src]
  unfold kf_change at hk
  by_cases c1 : x < 0 ∨ ¬ x < 6
  · rw [if_pos c1] at hk
    refine ⟨fun z => absurd (d0 (fun z => z c1)) z, fun _ => hJ 1 ⟨fun z => absurd z (by decide), fun _ => hk.bad (by decide) h⟩⟩
  rw [if_neg c1] at hk
  obtain ⟨s, hs, rfl⟩ := src_of c1
  rw [nI_clamp (n := s) (by omega)] at hk
  refine ⟨fun _ => ?_, fun z => absurd z (d1 c1)⟩
  refine km_canChange hs h.2.2.1 hi.1 (fun z => ?_) (fun k j z1 z2 hj e z => ?_) (fun k j z1 z2 hj hj2 e z => ?_)
  · refine hJ 1 ⟨fun q => absurd q (by decide), fun _ => ?_⟩
    cases hh : kf_at (aRow A s) m with
    | none =>
      rw [hh] at hk
      exact hk.bad (by decide) h
    | some k =>
      rw [hh] at hk z
      rcases z with z | z
      · cases z
      · dsimp only at hk
        rw [if_pos z] at hk
        exact hk.bad (by decide) h
  · rw [z1] at hk
    dsimp only at hk
    rw [if_neg z2, if_pos z] at hk
    exact hJ 2 ⟨fun q => absurd q (by decide), fun _ => hk.bad (by decide) h⟩
  · obtain ⟨hk0, _⟩ := at_some z1
    have hg : (aRow A s)[k]? = some (aRow A s)[k] := List.getElem?_eq_getElem hk0
    rw [z1] at hk
    dsimp only at hk
    rw [if_neg z2, if_neg (by rw [z]; decide), hg] at hk
    dsimp only at hk
    subst e
    refine hJ 0 ⟨fun _ => ?_, fun q => absurd (Int32.le_refl 0) q⟩
    rw [Bool.and_eq_true] at z
    refine km_chg (S := (upd S.1 0 0, S.2)) hs h hi hTM z1 hg hj hj2 z.2 (fun S' h0 _ hC => hk _ S' h0 (fun _ => ?_) hC)
    rw [nI_clamp (n := j) (by omega)]
theorem km_remove {A : qkA} {v : qkAns} {S : qm_S} {T M : Nat} {x m : Int32} {K : Int32 → qm_S → Prop} (h : cC A v S) (hi : qkI T M A) (hTM : T ≤ 2 ^ 20 ∧ M ≤ 2 ^ 20) (hk : kM (kf_remove A x m) v K) : T_X8_remove x m S K := by
  unfold T_X8_remove
  intro J hJ
  rw [fm_src]
  unfold kf_remove at hk
  by_cases c1 : x < 0 ∨ ¬ x < 6
  · rw [if_pos c1] at hk
    refine ⟨fun _ => hJ 1 ⟨fun z => absurd z (by decide), fun _ => hk.bad (by decide) h⟩, fun z => absurd (d0 (fun z => z c1)) z⟩
  rw [if_neg c1] at hk
  obtain ⟨s, hs, rfl⟩ := src_of c1
  rw [nI_clamp (n := s) (by omega)] at hk
  refine ⟨fun z => absurd z (d1 c1), fun _ => ?_⟩
  obtain ⟨iR', iL', _, _, _, iT', iE'⟩ := hi
  obtain ⟨hn, hRs⟩ := h.2.2.1 s hs
  obtain ⟨hrs, has, _⟩ := iR' s hs
  refine km_placeOf hs hn hrs.1 hRs has ?_
  have hpn := pl_none (m := m) hrs.1
  refine ⟨fun z => ?_, fun z => ?_⟩
  · cases hh : kf_at (aRow A s) m with
    | none => exact absurd (hpn.mpr hh) z
    | some k =>
      rw [hh] at hk
      dsimp only at hk
      refine hJ 0 ⟨fun _ => ?_, fun q => absurd (Int32.le_refl 0) q⟩
      refine km_takesOut (A := A) (S := (upd S.1 0 0, S.2)) (T := T) (M := M) hs h.1.2.1 h.1.2.2.1 h.2.1 h.2.2.2.2.2.1 h.2.2.1 iE' iT' hTM iL' iR'.len has hh (fun S' hw hR' hE' => ?_)
      rw [nI_clamp (n := s) (by omega)]
      have hC := cC.wr (A := A) (S := (upd S.1 0 0, S.2)) h hw hR' hE'
      refine ⟨pk_in s 6 hs, hk _ S' (hw.1 0 (by decide) (by decide)) (fun _ => ?_) hC⟩
      have := (hC.2.2.1 s hs).1
      have hw' : aRow (kf_written (sRow A (qkU (aRow A) s ((aRow A s).eraseIdx k))) s) s = (aRow A s).eraseIdx k := qkU_s
      rw [hw'] at this
      exact this
  · rw [hpn.mp z] at hk
    exact hJ 1 ⟨fun q => absurd q (by decide), fun _ => hk.bad (by decide) h⟩
theorem km_count {A : qkA} {v : qkAns} {S : qm_S} {x : Int32} {K : Int32 → qm_S → Prop} (h : cC A v S) (hk : kN A (kf_count A x) v K) : T_X8_count x S K := by
  unfold T_X8_count
  rw [fm_src]
  unfold kf_count at hk
  by_cases c1 : x < 0 ∨ ¬ x < 6
  · rw [if_pos c1] at hk
    rw [if_pos (d0 (fun z => z c1))]
    exact ⟨fun z => absurd z (by decide), fun _ => hk.bad (by decide) h⟩
  rw [if_neg c1] at hk
  obtain ⟨s, hs, rfl⟩ := src_of c1
  rw [nI_clamp (n := s) (by omega)] at hk ⊢
  rw [if_neg (d1 c1)]
  exact ⟨fun _ => ⟨pk_in s 6 hs, hk _ (_, _) us1 (fun _ => (h.2.2.1 s hs).1) h⟩, fun z => absurd (Int32.le_refl 0) z⟩
theorem km_cell {A : qkA} {v : qkAns} {S : qm_S} {x m c : Int32} {K : Int32 → qm_S → Prop} (h : cC A v S) (hi : iR A) (hk : kN A (kf_cell A x m c) v K) : T_X8_cell x m c S K := by
  unfold T_X8_cell
  intro J hJ
  rw [fm_src]
  unfold kf_cell at hk
  have bad : kN A (1, 0) v K → J 1 := fun hk => hJ 1 ⟨fun z => absurd z (by decide), fun _ => hk.bad (by decide) h⟩
  by_cases c1 : x < 0 ∨ ¬ x < 6
  · rw [if_pos c1] at hk
    exact ⟨fun _ => bad hk, fun z => absurd (d0 (fun z => z c1)) z⟩
  rw [if_neg c1] at hk
  obtain ⟨s, hs, rfl⟩ := src_of c1
  rw [nI_clamp (n := s) (by omega)] at hk
  refine ⟨fun z => absurd z (d1 c1), fun _ => ?_⟩
  obtain ⟨hn, hRs⟩ := h.2.2.1 s hs
  obtain ⟨hrs, has, _⟩ := hi s hs
  refine km_placeOf hs hn hrs.1 hRs has ?_
  have hpn := pl_none (m := m) hrs.1
  rw [fm_col hs]
  refine ⟨fun z => ?_, fun z => ?_⟩
  · rw [hpn.mp z] at hk
    exact bad hk
  · cases hh : kf_at (aRow A s) m with
    | none => exact absurd (hpn.mpr hh) z
    | some k =>
      rw [hh] at hk
      dsimp only at hk
      by_cases cc : c < 0 ∨ ¬ c < kf_cols (s / 2)
      · rw [if_pos cc] at hk
        exact ⟨fun q => absurd (d0 (fun z => z cc)) q, fun _ => bad hk⟩
      rw [if_neg cc] at hk
      obtain ⟨hk0, _⟩ := at_some hh
      have hg : (aRow A s)[k]? = some (aRow A s)[k] := List.getElem?_eq_getElem hk0
      rw [hg] at hk
      dsimp only at hk
      obtain ⟨j, hj, _, rfl⟩ := col_of cc
      refine ⟨fun _ => hJ 0 ⟨fun _ => ?_, fun q => absurd (Int32.le_refl 0) q⟩, fun q => absurd q (d1 cc)⟩
      refine km_placeOf (S := (upd S.1 0 0, S.2)) hs hn hrs.1 hRs has ?_
      rw [pl_some hh, m_12, nI_add, m_4, nI_add, nI_clamp (n := 4 * (12 * s + k) + j) (by have := hrs.1; omega)]
      refine ⟨ik 288 (by have := hrs.1; omega), hk _ (_, _) us1 (fun _ => ?_) h⟩
      rw [nI_clamp (n := j) (by omega)]
      exact (hRs k _ hg).2 j hj
theorem km_losses {A : qkA} {v : qkAns} {S : qm_S} {K : Int32 → qm_S → Prop} (h : cC A v S) (hk : kN A (0, aQ A 13) v K) : T_X8_losses S K := hk _ (_, _) us1 (fun _ => h.1.1) h
theorem km_moment {A : qkA} {v : qkAns} {S : qm_S} {K : Int32 → qm_S → Prop} (h : cC A v S) (hk : kN A (0, aQ A 14) v K) : T_X8_moment S K := hk _ (_, _) us1 (fun _ => h.1.2.1) h
theorem km_now {A : qkA} {v : qkAns} {S : qm_S} {K : Int32 → qm_S → Prop} (h : cC A v S) (hk : kN A (0, aQ A 15) v K) : T_X8_now S K := hk _ (_, _) us1 (fun _ => h.1.2.2.1) h
theorem km_entries {A : qkA} {v : qkAns} {S : qm_S} {K : Int32 → qm_S → Prop} (h : cC A v S) (hk : kN A (0, nI (aCache A).length) v K) : T_X8_entries S K := hk _ (_, _) us1 (fun _ => h.2.2.2.2.2.1.1) h
theorem km_size {A : qkA} {v : qkAns} {S : qm_S} {x : Int32} {K : Int32 → qm_S → Prop} (h : cC A v S) (hk : kN A (if x < 0 ∨ ¬ x < 6 then (1, 0) else (0, aSr A x.toNatClampNeg 5)) v K) : T_X8_size x S K := by
  unfold T_X8_size
  rw [fm_src]
  by_cases c1 : x < 0 ∨ ¬ x < 6
  · rw [if_pos c1] at hk
    rw [if_pos (d0 (fun z => z c1))]
    exact ⟨fun z => absurd z (by decide), fun _ => hk.bad (by decide) h⟩
  rw [if_neg c1] at hk
  obtain ⟨s, hs, rfl⟩ := src_of c1
  rw [nI_clamp (n := s) (by omega)] at hk ⊢
  rw [if_neg (d1 c1)]
  exact ⟨fun _ => ⟨pk_in s 6 hs, hk _ (_, _) us1 (fun _ => (h.2.2.2.1 s hs).2.2.2) h⟩, fun z => absurd (Int32.le_refl 0) z⟩
/-! stores, the time -/
theorem ln_one {A : qkA} {l k f i : Nat} {x : Int32} {F : Nat → Nat → Int32} (h : F (f + 8) i = aLn A i f) : qm_uA F (k + 8) (upd (F (k + 8)) l x) (f + 8) i = qkU (aLn A) l (upd (aLn A l) k x) i f := by
  by_cases e : f = k
  · subst e
    rw [uA_s]
    by_cases e' : i = l
    · subst e'
      rw [qkU_s, upd_s, upd_s]
    · rw [qkU_n e', upd_n e']
      exact h
  · rw [uA_n (by omega)]
    by_cases e' : i = l
    · subst e'
      rw [qkU_s, upd_n e]
      exact h
    · rw [qkU_n e']
      exact h
theorem cL.put {A : qkA} {S : qm_S} (k : Nat) (hk : 1 ≤ k ∧ k ≤ 9) {l : Nat} {x : Int32} (h : cL A S) : cL (kf_ln A l k x) (S.1, qm_uA S.2 (k + 8) (upd (S.2 (k + 8)) l x)) := by
  intro i hi
  obtain ⟨a1, a2, a3, a4, a5, a6, a7, a8, a9, b1, b2'⟩ := h i hi
  exact ⟨ln_one (f := 1) a1, ln_one (f := 2) a2, ln_one (f := 3) a3, ln_one (f := 4) a4, ln_one (f := 5) a5, ln_one (f := 6) a6, ln_one (f := 7) a7, ln_one (f := 8) a8, ln_one (f := 9) a9, (congrFun (uA_n (by omega)) i).trans b1, (congrFun (uA_n (by omega)) i).trans b2'⟩
theorem km_setPace {A : qkA} {v : qkAns} {S : qm_S} {a d l : Int32} {K : Int32 → qm_S → Prop} (h : cC A v S) (hk : kM (kf_setPace A a d l) v K) : T_X8_setPace a d l S K := by
  unfold T_X8_setPace
  rw [fm_store, fm_in, fm_in]
  unfold kf_setPace at hk
  have bad : ∀ e : Int32, ¬ e ≤ 0 → kM (e, 0, A) v K → ∀ P : Prop, (e ≤ 0 → P) ∧ (¬ e ≤ 0 → K 0 (upd S.1 0 e, S.2)) := fun e he hk P => ⟨fun z => absurd z he, fun _ => hk.bad (fun z => he (by rw [z]; exact Int32.le_refl 0)) h⟩
  by_cases c1 : a < 0 ∨ ¬ a < 3
  · rw [if_pos c1] at hk
    rw [if_pos (d0 (fun z => z c1))]
    exact bad 1 (by decide) hk _
  rw [if_neg c1] at hk
  rw [if_neg (d1 c1)]
  by_cases c2 : d < 0 ∨ 30 < d
  · rw [if_pos (Or.inl c2)] at hk
    rw [if_pos (d0 (fun z => c2.elim z.1 z.2))]
    exact bad 2 (by decide) hk _
  rw [if_neg (d1 (not_or.mp c2))]
  by_cases c3 : l < 0 ∨ 60 < l
  · rw [if_pos (Or.inr c3)] at hk
    rw [if_pos (d0 (fun z => c3.elim z.1 z.2))]
    exact bad 2 (by decide) hk _
  rw [if_neg (d1 (not_or.mp c3))]
  rw [if_neg (by rintro (z | z); exact c2 z; exact c3 z)] at hk
  obtain ⟨s, hs, rfl⟩ := sto_of c1
  rw [nI_clamp (n := s) (by omega)] at hk ⊢
  obtain ⟨hT, hL, hR, hS, hD, hE, hB, hA⟩ := h
  refine ⟨fun _ => ⟨pk_in s 3 hs, pk_in s 3 hs, hk _ (_, _) us1 (fun _ => (hL s hs).1) ?_⟩, fun z => absurd (Int32.le_refl 0) z⟩
  exact ⟨hT, (hL.put 1 (by decide) (x := d) (l := s)).put 2 (by decide) (x := l) (l := s), hR, hS, hD, hE, hB, hA⟩
theorem km_setBounds {A : qkA} {v : qkAns} {S : qm_S} {a d l : Int32} {K : Int32 → qm_S → Prop} (h : cC A v S) (hk : kM (kf_setBounds A a d l) v K) : T_X8_setBounds a d l S K := by
  unfold T_X8_setBounds
  rw [fm_store, fm_in, fm_in]
  unfold kf_setBounds at hk
  have bad : ∀ e : Int32, ¬ e ≤ 0 → kM (e, 0, A) v K → ∀ P : Prop, (e ≤ 0 → P) ∧ (¬ e ≤ 0 → K 0 (upd S.1 0 e, S.2)) := fun e he hk P => ⟨fun z => absurd z he, fun _ => hk.bad (fun z => he (by rw [z]; exact Int32.le_refl 0)) h⟩
  by_cases c1 : a < 0 ∨ ¬ a < 3
  · rw [if_pos c1] at hk
    rw [if_pos (d0 (fun z => z c1))]
    exact bad 1 (by decide) hk _
  rw [if_neg c1] at hk
  rw [if_neg (d1 c1)]
  by_cases c2 : d < 1 ∨ 20 < d
  · rw [if_pos (Or.inl c2)] at hk
    rw [if_pos (d0 (fun z => c2.elim z.1 z.2))]
    exact bad 2 (by decide) hk _
  rw [if_neg (d1 (not_or.mp c2))]
  by_cases c3 : l < 0 ∨ 12 < l
  · rw [if_pos (Or.inr c3)] at hk
    rw [if_pos (d0 (fun z => c3.elim z.1 z.2))]
    exact bad 2 (by decide) hk _
  rw [if_neg (d1 (not_or.mp c3))]
  rw [if_neg (by rintro (z | z); exact c2 z; exact c3 z)] at hk
  obtain ⟨s, hs, rfl⟩ := sto_of c1
  rw [nI_clamp (n := s) (by omega)] at hk ⊢
  obtain ⟨hT, hL, hR, hS, hD, hE, hB, hA⟩ := h
  refine ⟨fun _ => ⟨pk_in s 3 hs, pk_in s 3 hs, hk _ (_, _) us1 (fun _ => (hL s hs).2.2.1) ?_⟩, fun z => absurd (Int32.le_refl 0) z⟩
  exact ⟨hT, (hL.put 3 (by decide) (x := d) (l := s)).put 4 (by decide) (x := l) (l := s), hR, hS, hD, hE, hB, hA⟩
/-- the time goes on: entries dropped on both sides -/
theorem km_goTo {A : qkA} {v : qkAns} {S S1 : qm_S} {t : Int32} {K : qm_S → Prop} (h : cC A v S) (hi : iE A) (hdue : ∀ m ∈ aMsg A, ¬ m.2.1 = -1) (h8 : S1.1 8 = t) (h1 : ∀ k, k ≠ 8 → S1.1 k = S.1 k) (h2 : S1.2 = S.2) (hk : ∀ S' : qm_S, S'.1 8 = t → (∀ k, k ≠ 8 → k ≠ 39 → S'.1 k = S.1 k) → (∀ k, k < 40 ∨ 51 < k → S'.2 k = S.2 k) → cC (kf_goTo A t) v S' → K S') : T_X8_drops S1 K := by
  obtain ⟨hT, hL, hR, hS, hD, hE, hB, hA⟩ := h
  refine km_drops (A := A) (t := t) h8 (fun l hl => by rw [h2]; exact (hL l hl).2.2.2.2.1) (hE.fr (h1 39 (by decide)) (fun k _ _ => by rw [h2])) hi hdue (fun S' f1 f2 hc => ?_)
  have e1 : ∀ k, k ≠ 8 → k ≠ 39 → S'.1 k = S.1 k := fun k a b => (f1 k b).trans (h1 k a)
  have e2 : ∀ k, k < 40 ∨ 51 < k → S'.2 k = S.2 k := fun k a => (f2 k a).trans (by rw [h2])
  have e8 : S'.1 8 = t := (f1 8 (by decide)).trans h8
  refine hk S' e8 e1 e2 ⟨⟨(e1 6 (by decide) (by decide)).trans hT.1, (e1 7 (by decide) (by decide)).trans hT.2.1, e8.trans rfl, (e1 37 (by decide) (by decide)).trans hT.2.2.2.1, (e1 38 (by decide) (by decide)).trans hT.2.2.2.2⟩, hL.fr fun k _ _ => e2 k (by omega), hR.fr (e2 1 (by omega)) (e2 2 (by omega)) (e2 3 (by omega)), hS.fr (e2 4 (by omega)) (e2 5 (by omega)) (e2 20 (by omega)) (e2 21 (by omega)), hD.fr (fun k _ _ => e1 k (by omega) (by omega)) (fun k _ _ => e2 k (by omega)), hc, hB.fr (e1 85 (by decide) (by decide)) (fun k _ _ => e2 k (by omega)), hA.fr (fun k _ _ => e1 k (by omega) (by omega)) (e2 77 (by omega)) (e2 84 (by omega))⟩
theorem km_setLease {A : qkA} {v : qkAns} {S : qm_S} {T M : Nat} {a l : Int32} {K : Int32 → qm_S → Prop} (h : cC A v S) (hi : qkI T M A) (hTM : T ≤ 2 ^ 20 ∧ M ≤ 2 ^ 20) (hk : kM (kf_setLease A a l) v K) : T_X8_setLease a l S K := by
  unfold T_X8_setLease
  rw [fm_store, fm_in]
  unfold kf_setLease at hk
  have bad : ∀ e : Int32, ¬ e ≤ 0 → kM (e, 0, A) v K → ∀ P : Prop, (e ≤ 0 → P) ∧ (¬ e ≤ 0 → K 0 (upd S.1 0 e, S.2)) := fun e he hk P => ⟨fun z => absurd z he, fun _ => hk.bad (fun z => he (by rw [z]; exact Int32.le_refl 0)) h⟩
  by_cases c1 : a < 0 ∨ ¬ a < 3
  · rw [if_pos c1] at hk
    rw [if_pos (d0 (fun z => z c1))]
    exact bad 1 (by decide) hk _
  rw [if_neg c1] at hk
  rw [if_neg (d1 c1)]
  by_cases c2 : l < 0 ∨ 200 < l
  · rw [if_pos c2] at hk
    rw [if_pos (d0 (fun z => c2.elim z.1 z.2))]
    exact bad 2 (by decide) hk _
  rw [if_neg (d1 (not_or.mp c2))]
  rw [if_neg c2] at hk
  obtain ⟨s, hs, rfl⟩ := sto_of c1
  rw [nI_clamp (n := s) (by omega)] at hk ⊢
  obtain ⟨hT, hL, hR, hS, hD, hE, hB, hA⟩ := h
  refine ⟨fun _ => ⟨pk_in s 3 hs, ?_⟩, fun z => absurd (Int32.le_refl 0) z⟩
  have h1 : cC (kf_ln A s 5 l) v (upd S.1 0 0, qm_uA S.2 13 (upd (S.2 13) s l)) := ⟨hT, hL.put 5 (by decide) (x := l) (l := s), hR, hS, hD, hE, hB, hA⟩
  refine km_goTo (A := kf_ln A s 5 l) (t := aQ A 15) h1 hi.2.2.2.2.2.2 (hi.2.2.2.2.2.1.due hTM.1) ((un1 (by decide)).trans hT.2.2.1) (fun _ _ => rfl) rfl (fun S' _ f1 _ hC => ?_)
  exact hk _ S' ((f1 0 (by decide) (by decide)).trans rfl) (fun _ => (hL s hs).2.2.2.2.1) hC
theorem km_fail {A : qkA} {v : qkAns} {S : qm_S} {a n d : Int32} {K : Int32 → qm_S → Prop} (hd : d = 0 ∨ d = 1) (h : cC A v S) (hk : kM (kf_fail A a n d) v K) : T_X8_fail a n d S K := by
  unfold T_X8_fail
  rw [fm_store, fm_in]
  unfold kf_fail at hk
  have bad : ∀ e : Int32, ¬ e ≤ 0 → kM (e, 0, A) v K → ∀ P : Prop, (e ≤ 0 → P) ∧ (¬ e ≤ 0 → K 0 (upd S.1 0 e, S.2)) := fun e he hk P => ⟨fun z => absurd z he, fun _ => hk.bad (fun z => he (by rw [z]; exact Int32.le_refl 0)) h⟩
  by_cases c1 : a < 0 ∨ ¬ a < 3
  · rw [if_pos c1] at hk
    rw [if_pos (d0 (fun z => z c1))]
    exact bad 1 (by decide) hk _
  rw [if_neg c1] at hk
  rw [if_neg (d1 c1)]
  by_cases c2 : n < 0 ∨ 20 < n
  · rw [if_pos c2] at hk
    rw [if_pos (d0 (fun z => c2.elim z.1 z.2))]
    exact bad 2 (by decide) hk _
  rw [if_neg (d1 (not_or.mp c2))]
  rw [if_neg c2] at hk
  obtain ⟨s, hs, rfl⟩ := sto_of c1
  rw [nI_clamp (n := s) (by omega)] at hk ⊢
  obtain ⟨hT, hL, hR, hS, hD, hE, hB, hA⟩ := h
  refine ⟨fun _ => ⟨pk_in s 3 hs, hd, pk_in s 3 hs, hk _ (_, _) us1 (fun _ => (hL s hs).2.2.2.2.2.1) ?_⟩, fun z => absurd (Int32.le_refl 0) z⟩
  exact ⟨hT, (hL.put 6 (by decide) (x := n) (l := s)).put 7 (by decide) (x := d) (l := s), hR, hS, hD, hE, hB, hA⟩
theorem km_goes {A : qkA} {v : qkAns} {S : qm_S} {T M : Nat} {t a : Int32} {K : qm_S → Prop} (h : cC A v S) (hi : iE A) (hit : iT T M A) (hT : T ≤ 2 ^ 20) (he : aQ A 15 + a = t) (hk : ∀ S' : qm_S, S'.1 8 = t → (∀ k, k ≠ 8 → k ≠ 39 → S'.1 k = S.1 k) → (∀ k, k < 40 ∨ 51 < k → S'.2 k = S.2 k) → cC (kf_goTo A t) v S' → K S') : T_X8_goes a S K := by
  unfold T_X8_goes
  refine km_goTo (t := t) h hi (hit.due hT) ?_ (fun k z => upd_n z) rfl hk
  show upd S.1 8 (S.1 8 + a) 8 = t
  rw [upd_s, h.1.2.2.1, he]
theorem km_pass {A : qkA} {v : qkAns} {S : qm_S} {T M : Nat} {a : Int32} {K : Int32 → qm_S → Prop} (h : cC A v S) (hi : qkI T M A) (hTM : T ≤ 2 ^ 20 ∧ M ≤ 2 ^ 20) (hk : kM (kf_pass A a) v K) : T_X8_pass a S K := by
  unfold T_X8_pass
  rw [fm_in]
  unfold kf_pass at hk
  by_cases c2 : a < 1 ∨ 100 < a
  · rw [if_pos c2] at hk
    rw [if_pos (d0 (fun z => c2.elim z.1 z.2))]
    exact ⟨fun z => absurd z (by decide), fun _ => hk.bad (by decide) h⟩
  rw [if_neg (d1 (not_or.mp c2))]
  rw [if_neg c2] at hk
  refine ⟨fun _ => ?_, fun z => absurd (Int32.le_refl 0) z⟩
  refine km_goes (A := A) (S := (upd S.1 0 0, S.2)) h hi.2.2.2.2.2.2 hi.2.2.2.2.2.1 hTM.1 rfl (fun S' f8 f1 _ hC => ?_)
  exact hk _ S' ((f1 0 (by decide) (by decide)).trans rfl) (fun _ => f8) hC
