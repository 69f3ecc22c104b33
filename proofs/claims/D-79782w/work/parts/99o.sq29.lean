/-! SQ 29: all data as they are, on both sides -/
set_option maxRecDepth 100000
theorem km_anew {A : qkA} {v : qkAns} {S : qm_S} {T M : Nat} {K : qm_S → Prop} (h : cC A v S) (hi : qkI T M A) (hz : ¬ ((aSeat A).length = 0 ∨ (aOut A).length = 0)) (hk : ∀ S' : qm_S, S'.1 0 = S.1 0 → cC A v S' → S'.1 68 = nI (kf_anew A).length → S'.1 69 = nI (kf_wide A) → (∀ (k : Nat) (r : qkV), (kf_anew A)[k]? = some r → r.1 = kf_wide A ∧ ∀ c, c < r.1 → S'.2 70 (3 * k + c) = r.2 c) → K S') : T_X8_makes 0 S K := by
  have iD' := hi.2.2.2.1
  have hB := h.b
  rw [not_or] at hz
  obtain ⟨lim, hl1, hl40, hlim⟩ := iD'.2.2.2.2.1
  have hraw : ∀ s, s < (aSeat A).length → rSrc A S 0 s (aRow A (kf_sno A s)) := fun s hs => by
    obtain ⟨src, h6, hg, _, e4⟩ := sno_of iD' hs
    obtain ⟨r1, r2⟩ := hB.2.2.1 src h6
    rw [e4]
    exact Or.inr ⟨rfl, src, h6, hg, r1, hi.1.len src h6, r2⟩
  have hval : ∀ s, s < (aSeat A).length → ∀ r ∈ (aRow A (kf_sno A s)).filter (fun r => kf_all (kf_own A (nI s)) r), qkVal r := fun s hs r hr => by
    obtain ⟨src, h6, hg, _, e4⟩ := sno_of iD' hs
    rw [e4] at hr
    exact (hi.1 src h6).1.2 r (List.mem_filter.mp hr).1
  refine km_makes (A := A) (here := 0) (lim := lim) (raw := fun s => aRow A (kf_sno A s)) hB.2.2.2.2.1 iD' rfl (by omega) (by omega) hB.1.2.2.2.1 hB.1.2.2.2.2 hlim hl40 hraw hval (fun S' f1 f2 f68 f69 f70 => ?_)
  have hvs : kf_anew A = (kf_walk A (fun s => (aRow A (kf_sno A s)).filter (fun r => kf_all (kf_own A (nI s)) r)) (aSeat A).length).take lim := by
    unfold kf_anew
    rw [hlim, nI_clamp (n := lim) (by omega)]
    rfl
  rw [← hvs] at f68 f70
  refine hk S' (f1 0 (by decide) (by decide) (by decide)) ((hB.fr (fun k hk => f1 k (by omega) (by omega) (by omega)) (fun k hk => f2 k (by omega) (by omega) (by omega) (by omega) (by omega) (by omega) (by omega))).c ?_) f68 f69 f70
  exact cA.fr h.2.2.2.2.2.2.2 (fun k _ _ => f1 k (by omega) (by omega) (by omega)) (f2 77 (by decide) (by decide) (by decide) (by decide) (by decide) (by decide) (by decide)) (f2 84 (by decide) (by decide) (by decide) (by decide) (by decide) (by decide) (by decide))
theorem km_answersAnew {A : qkA} {v : qkAns} {S : qm_S} {T M : Nat} {K : Int32 → qm_S → Prop} (h : cC A v S) (hi : qkI T M A) (hk1 : (aSeat A).length = 0 ∨ (aOut A).length = 0 → ∀ S' : qm_S, S'.1 0 = 1 → cC A v S' → K 0 S') (hk0 : ¬ ((aSeat A).length = 0 ∨ (aOut A).length = 0) → ∀ S' : qm_S, S'.1 0 = 0 → cC A v S' → K (nI (kf_anew A).length) S') : T_X8_answersAnew S K := by
  unfold T_X8_answersAnew
  rw [fm_drafted h.b.2.2.2.2.1 hi.2.2.2.1]
  by_cases c3 : (aSeat A).length = 0 ∨ (aOut A).length = 0
  · rw [if_pos (d0 (fun z => z c3))]
    exact ⟨fun z => absurd z (by decide), fun _ => hk1 c3 _ us1 h⟩
  · rw [if_neg (d1 c3)]
    refine ⟨fun _ => ?_, fun z => absurd (Int32.le_refl 0) z⟩
    refine km_anew (A := A) (v := v) (S := (upd S.1 0 0, S.2)) h hi c3 (fun S' e0 hC e68 _ _ => ?_)
    rw [e68]
    exact hk0 c3 S' (e0.trans us1) hC
theorem km_answerAnew {A : qkA} {v : qkAns} {S : qm_S} {T M : Nat} {a b : Int32} {K : Int32 → qm_S → Prop} (h : cC A v S) (hi : qkI T M A) (hk1 : (aSeat A).length = 0 ∨ (aOut A).length = 0 → ∀ S' : qm_S, S'.1 0 = 1 → cC A v S' → K 0 S') (hk2 : ¬ ((aSeat A).length = 0 ∨ (aOut A).length = 0) → (kf_cellOf (kf_anew A) a b).1 = 1 → ∀ S' : qm_S, S'.1 0 = 2 → cC A v S' → K 0 S') (hk0 : ¬ ((aSeat A).length = 0 ∨ (aOut A).length = 0) → (kf_cellOf (kf_anew A) a b).1 = 0 → ∀ S' : qm_S, S'.1 0 = 0 → cC A v S' → K (kf_cellOf (kf_anew A) a b).2 S') : T_X8_answerAnew a b S K := by
  unfold T_X8_answerAnew
  rw [fm_drafted h.b.2.2.2.2.1 hi.2.2.2.1]
  have hlen : (kf_anew A).length ≤ 40 := by
    obtain ⟨lim, hl1, hl40, hlim⟩ := hi.2.2.2.1.2.2.2.2.1
    unfold kf_anew
    rw [hlim, nI_clamp (n := lim) (by omega), List.length_take]
    omega
  have hw3 : kf_wide A ≤ 3 := by
    unfold kf_wide
    split
    · exact hi.2.2.2.1.2.2.2.1.1
    · exact Nat.le_refl 3
  by_cases c3 : (aSeat A).length = 0 ∨ (aOut A).length = 0
  · rw [if_pos (d0 (fun z => z c3))]
    exact ⟨fun z => absurd z (by decide), fun _ => hk1 c3 _ us1 h⟩
  rw [if_neg (d1 c3)]
  refine ⟨fun _ => ?_, fun z => absurd (Int32.le_refl 0) z⟩
  refine km_anew (A := A) (v := v) (S := (upd S.1 0 0, S.2)) h hi c3 (fun S' e0 hC e68 e69 e70 => ?_)
  have hk2 := hk2 c3
  have hk0 := hk0 c3
  unfold kf_cellOf at hk2 hk0
  have bad : (∀ S' : qm_S, S'.1 0 = 2 → cC A v S' → K 0 S') → ∀ P : Prop, ((2 : Int32) ≤ 0 → P) ∧ (¬ (2 : Int32) ≤ 0 → K 0 (upd S'.1 0 2, S'.2)) := fun hk P => ⟨fun z => absurd z (by decide), fun _ => hk _ us1 hC⟩
  rw [fm_in, fm_in, e68, e69]
  have hw : decide (¬ a < 0 ∧ ¬ nI (kf_anew A).length - 1 < a) = decide (¬ (a < 0 ∨ ¬ a < nI (kf_anew A).length)) := by
    rw [decide_eq_decide, lt_pred (by omega), not_or]
  have hw' : decide (¬ b < 0 ∧ ¬ nI (kf_wide A) - 1 < b) = decide (¬ (b < 0 ∨ ¬ b < nI (kf_wide A))) := by
    rw [decide_eq_decide, lt_pred (by omega), not_or]
  rw [hw, hw']
  by_cases c1 : a < 0 ∨ ¬ a < nI (kf_anew A).length
  · rw [if_pos c1] at hk2
    rw [if_pos (d0 (fun z => z c1))]
    exact bad (hk2 rfl) _
  rw [if_neg c1] at hk2 hk0
  rw [if_neg (d1 c1)]
  rw [not_or, Classical.not_not] at c1
  obtain ⟨k, hk', rfl⟩ := ix_of _ (by omega) c1.1 c1.2
  have hg : (kf_anew A)[k]? = some (kf_anew A)[k] := List.getElem?_eq_getElem hk'
  obtain ⟨w1, w2⟩ := e70 k _ hg
  rw [nI_clamp (n := k) (by omega), hg] at hk2 hk0
  dsimp only at hk2 hk0
  rw [w1] at hk2 hk0 w2
  by_cases c2 : b < 0 ∨ ¬ b < nI (kf_wide A)
  · rw [if_pos c2] at hk2
    rw [if_pos (d0 (fun z => z c2))]
    exact bad (hk2 rfl) _
  rw [if_neg c2] at hk0
  rw [if_neg (d1 c2)]
  rw [not_or, Classical.not_not] at c2
  obtain ⟨j, hj, rfl⟩ := ix_of _ (by omega) c2.1 c2.2
  rw [nI_clamp (n := j) (by omega)] at hk0
  rw [m_3, nI_add, nI_clamp (n := 3 * k + j) (by omega), w2 j hj]
  exact ⟨fun _ => ⟨ik 120 (by omega), hk0 rfl _ us1 hC⟩, fun z => absurd (Int32.le_refl 0) z⟩
