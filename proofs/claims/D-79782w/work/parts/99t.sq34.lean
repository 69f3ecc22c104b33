/-! SQ 34: a step's three attempts, told by the component -/
set_option maxRecDepth 100000
/-- what a run keeps -/
def uF (S S' : qm_S) : Prop := S'.1 0 = S.1 0 ∧ S'.1 85 = S.1 85 ∧ ∀ j, 86 ≤ j → S'.2 j = S.2 j
theorem uF.tr {S S' S'' : qm_S} (h : uF S S') (k : uF S' S'') : uF S S'' := ⟨k.1.trans h.1, k.2.1.trans h.2.1, fun j hj => (k.2.2 j hj).trans (h.2.2 j hj)⟩
theorem tF.u {S S' : qm_S} (h : tF S S') : uF S S' := ⟨h.1 0 (by decide) (by decide) (by decide) (by decide) (by decide), h.1 85 (by decide) (by decide) (by decide) (by decide) (by decide), fun j hj => h.2 j (by omega) (by omega) (by omega) (by omega)⟩
theorem uF.d {S S' : qm_S} {k : Nat} (h : uF S S') : dF k S S' := ⟨h.1, h.2.1, fun j h1 _ => h.2.2 j h1, fun j _ => by rw [h.2.2 92 (by decide)], fun p _ => by rw [h.2.2 93 (by decide)]⟩
theorem dF.tr {k : Nat} {S S' S'' : qm_S} (h : dF k S S') (g : dF k S' S'') : dF k S S'' := ⟨g.1.trans h.1, g.2.1.trans h.2.1, fun j a b => (g.2.2.1 j a b).trans (h.2.2.1 j a b), fun j a => (g.2.2.2.1 j a).trans (h.2.2.2.1 j a), fun p a => (g.2.2.2.2 p a).trans (h.2.2.2.2 p a)⟩
theorem rStp.fr {S S' : qm_S} {k : Nat} {f : Nat → Int32} (h : rStp S k f) (g : ∀ j, 86 ≤ j → j ≤ 91 → S'.2 j = S.2 j) : rStp S' k f := by
  unfold rStp at h ⊢
  rw [g 86 (by decide) (by decide), g 87 (by decide) (by decide), g 88 (by decide) (by decide), g 89 (by decide) (by decide), g 90 (by decide) (by decide), g 91 (by decide) (by decide)]
  exact h
theorem rUndo.fr {S S' : qm_S} {k : Nat} {f : Nat → Int32} {d : qkDone} (h : rUndo S k f d) (g : S'.2 92 k = S.2 92 k) (g' : ∀ c, c < 4 → S'.2 93 (4 * k + c) = S.2 93 (4 * k + c)) : rUndo S' k f d := by
  obtain ⟨u1, u2, u3, u4, u5⟩ := h
  refine ⟨u1, u2, fun z => ?_, fun z => ?_, fun z z' => ?_⟩
  · obtain ⟨r, a, b, c⟩ := u3 z
    exact ⟨r, a, b, g.trans c⟩
  · obtain ⟨r, q, j, a1, a2, a3, a4, a5, a6, a7, a8⟩ := u4 z
    exact ⟨r, q, j, a1, a2, a3, a4, a5, g.trans a6, (g' 0 (by decide)).trans a7, a8⟩
  · obtain ⟨r, a, b, c, e⟩ := u5 z z'
    exact ⟨r, a, b, g.trans c, fun i hi => (g' i hi).trans (e i hi)⟩
/-- an attempt, told with the answer -/
theorem km_triesC {A : qkA} {v : qkAns} {S : qm_S} {T M l : Nat} {b : Int32} {f : Nat → Int32} {K : Int32 → qm_S → Prop} (hl : l < 3) (h : cC A v S) (hi : qkI T M A) (hTM : T + 40 ≤ 2 ^ 20)
    (hk : ∀ S' : qm_S, cC (kf_attempt A l b (-1) f).2.1 v S' → uF S S' → K (if (kf_attempt A l b (-1) f).1 = 0 then 2 else if (kf_attempt A l b (-1) f).1 = 1 then 1 else 0) S') : T_X8_tries (nI l) 0 S K := by
  refine km_tries (q := 0) (b := b) (d := -1) (f := f) hl h.b hi hTM (Or.inl ⟨rfl, rfl⟩) (fun S' hB' ht h0 _ => ?_)
  obtain ⟨e55, e80, e81⟩ := h0 rfl
  have hA := h.2.2.2.2.2.2.2
  refine hk S' (hB'.c (hA.fr (fun i h1 h2 => ?_) (ht.2 77 (by decide) (by decide) (by decide) (by decide)) (ht.2 84 (by decide) (by decide) (by decide) (by decide)))) ht.u
  by_cases c0 : i = 80
  · rw [c0]; exact e80
  by_cases c1 : i = 81
  · rw [c1]; exact e81
  exact ht.1 i (by omega) (by omega) (by omega) c0 c1
def rBody (a1 l : Int32) (K : Int32 → qm_S → Prop) (X2 : Int32 → Int32 → Int32 → qm_S → Prop) (x3 x4 x5 : Int32) (S6 : qm_S) : Prop := ((3 ≤ x5 → (x3 = 0 → K 0 S6) ∧ (¬ x3 = 0 → K 1 S6)) ∧ (¬ 3 ≤ x5 → T_X8_tries l 0 S6 (fun r9 S11 => ∀ J29 : Int32 → Int32 → qm_S → Prop, (∀ (x30 x31 : Int32) (S32 : qm_S), ((¬ r9 = 2 → X2 x30 x31 (x5 + 1) S32) ∧ (r9 = 2 → (x30 = 0 → K 0 S32) ∧ (¬ x30 = 0 → K 2 S32))) → J29 x30 x31 S32) → (¬ x3 = 0 → J29 x3 x4 S11) ∧ (x3 = 0 → (¬ x4 = 0 → J29 x3 x4 S11) ∧ (x4 = 0 → (r9 = 2 → T_X8_canStep a1 S11 (fun r15 => (r15 = 0 → J29 r15 ((if r15 = 0 then (1 : Int32) else (0 : Int32))) S11) ∧ (¬ r15 = 0 → T_X8_doesStep a1 S11 (fun S20 => J29 r15 ((if r15 = 0 then (1 : Int32) else (0 : Int32))) S20)))) ∧ (¬ r9 = 2 → vp_in l (qm_len 15) ∧ ((S11.2 15 l.toNatClampNeg) = 0 → J29 x3 x4 S11) ∧ (¬ (S11.2 15 l.toNatClampNeg) = 0 → T_X8_canStep a1 S11 (fun r23 => (r23 = 0 → J29 r23 ((if r23 = 0 then (1 : Int32) else (0 : Int32))) S11) ∧ (¬ r23 = 0 → T_X8_doesStep a1 S11 (fun S28 => J29 r23 ((if r23 = 0 then (1 : Int32) else (0 : Int32))) S28))))))))))
theorem nI_3 : (3 : Int32) = nI 3 := rfl
theorem isd_own {X2 : Int32 → Int32 → Int32 → qm_S → Prop} {a1 : Int32} {K : Int32 → qm_S → Prop} {v : qkAns} {f : Nat → Int32} {d : qkDone} {M l : Nat} {S0 : qm_S} (hl : l < 3) (hX : ∀ x3 x4 x5 S6, rBody a1 (nI l) K X2 x3 x4 x5 S6 → X2 x3 x4 x5 S6) : ∀ (m : Nat) (fa : Nat → Int32) (A : qkA) (S : qm_S) (T : Nat) (x4 : Int32), m ≤ 3 → cC A v S → qkI T M A → T + 40 * m ≤ 2 ^ 20 → uF S0 S →
    (∀ S' : qm_S, cC (kf_isd f l m (some d) fa A).2.2 v S' → uF S0 S' → K (if (kf_isd f l m (some d) fa A).1 = true then 2 else 1) S') → X2 1 x4 (nI (3 - m)) S := by
  intro m
  induction m with
  | zero =>
    intro fa A S T x4 _ h hi hT hu hk
    refine hX _ _ _ _ ⟨fun _ => ⟨fun z => absurd z (by decide), fun _ => hk S h hu⟩, fun z => absurd (show (3 : Int32) ≤ nI 3 by decide) z⟩
  | succ m ih =>
    intro fa A S T x4 hm h hi hT hu hk
    have n3 : ¬ (3 : Int32) ≤ nI (3 - (m + 1)) := Int32.not_le.mpr (by rw [nI_3]; exact nI_lt (by omega) (by omega))
    refine hX _ _ _ _ ⟨fun z => absurd z n3, fun _ => ?_⟩
    refine km_triesC (b := aQ A 15) (f := fa) hl h hi (by omega) (fun S' h' hu' => ?_)
    intro J hJ
    refine ⟨fun _ => hJ _ _ _ ?_, fun z => absurd z (by decide)⟩
    rw [kf_isd] at hk
    by_cases c : (kf_attempt A l (aQ A 15) (-1) fa).1 = 0
    · rw [if_pos c]
      rw [if_pos c] at hk
      exact ⟨fun z => absurd rfl z, fun _ => ⟨fun z => absurd z (by decide), fun _ => hk S' h' (hu.tr hu')⟩⟩
    · rw [if_neg c]
      rw [if_neg c] at hk
      refine ⟨fun _ => ?_, fun z => ?_⟩
      · have e : nI (3 - (m + 1)) + 1 = nI (3 - m) := by
          rw [nI_1, show 3 - m = 3 - (m + 1) + 1 by omega]
        rw [e]
        exact ih _ _ S' (T + 40) x4 (by omega) h' (hi.attempt hl (by omega)) (by omega) (hu.tr hu') hk
      · by_cases c1 : (kf_attempt A l (aQ A 15) (-1) fa).1 = 1
        · rw [if_pos c1] at z
          exact absurd z (by decide)
        · rw [if_neg c1] at z
          exact absurd z (by decide)
