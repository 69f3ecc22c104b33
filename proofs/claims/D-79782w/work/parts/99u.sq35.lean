/-! SQ 35: a step run, joined -/
set_option maxRecDepth 100000
theorem ki_done {T M : Nat} {A : qkA} {f : Nat → Int32} (h : qkI T M A) (hM : M ≤ 2 ^ 20) : qkI T (M + 1) (kf_done A f).2 := by
  unfold kf_done
  by_cases c0 : f 0 = 0
  · rw [if_pos c0]
    by_cases c : (kf_add A (f 1) (f 2) (f 3) (f 4) (f 5)).1 = 0
    · rw [if_pos c]; exact ki_add h hM
    · rw [if_neg c]; exact ki_add h hM
  rw [if_neg c0]
  by_cases c1 : f 0 = 1
  · rw [if_pos c1]
    by_cases c : (kf_change A (f 1) (f 2) (f 3) (f 4)).1 = 0
    · rw [if_pos c]; exact ki_change h hM
    · rw [if_neg c]; exact ki_change h hM
  rw [if_neg c1]
  by_cases c : (kf_remove A (f 1) (f 2)).1 = 0
  · rw [if_pos c]; exact ki_remove h hM
  · rw [if_neg c]; exact ki_remove h hM
theorem isd_some {f : Nat → Int32} {l : Nat} {d : qkDone} : ∀ {m : Nat} {fa : Nat → Int32} {A : qkA}, (kf_isd f l m (some d) fa A).2.1 = some d ∧ qkTm A (kf_isd f l m (some d) fa A).2.2 := by
  intro m
  induction m with
  | zero => intro fa A; exact ⟨rfl, qkTm.rf⟩
  | succ m ih =>
    intro fa A
    rw [kf_isd]
    by_cases c : (kf_attempt A l (aQ A 15) (-1) fa).1 = 0
    · rw [if_pos c]; exact ⟨rfl, qkTm.attempt⟩
    · rw [if_neg c]; exact ⟨ih.1, qkTm.attempt.tr ih.2⟩
theorem isd_none {X2 : Int32 → Int32 → Int32 → qm_S → Prop} {k : Nat} {K : Int32 → qm_S → Prop} {v : qkAns} {f : Nat → Int32} {M l : Nat} {S0 : qm_S} (hl : l < 3) (hk4 : k < 4) (hM : M + 1 ≤ 2 ^ 20) (hf : fOk f) (hX : ∀ x3 x4 x5 S6, rBody (nI k) (nI l) K X2 x3 x4 x5 S6 → X2 x3 x4 x5 S6) (hst0 : rStp S0 k f) : ∀ (m : Nat) (fa : Nat → Int32) (A : qkA) (S : qm_S) (T : Nat) (x4 : Int32), m ≤ 3 → cC A v S → qkI T M A → T + 40 * m ≤ 2 ^ 20 → uF S0 S → (x4 = 0 ∨ (¬ x4 = 0 ∧ (kf_done A f).1 = none)) →
    (∀ S' : qm_S, cC (kf_isd f l m none fa A).2.2 v S' → dF k S0 S' → (∀ d, (kf_isd f l m none fa A).2.1 = some d → rUndo S' k f d) → K (if (kf_isd f l m none fa A).1 = true then 2 else if (kf_isd f l m none fa A).2.1.isSome = true then 1 else 0) S') → X2 0 x4 (nI (3 - m)) S := by
  intro m
  induction m with
  | zero =>
    intro fa A S T x4 _ h hi hT hu hx4 hk
    refine hX _ _ _ _ ⟨fun _ => ⟨fun _ => hk S h hu.d (fun d z => by cases z), fun z => absurd rfl z⟩, fun z => absurd (show (3 : Int32) ≤ nI 3 by decide) z⟩
  | succ m ih =>
    intro fa A S T x4 hm h hi hT hu hx4 hk
    have n3 : ¬ (3 : Int32) ≤ nI (3 - (m + 1)) := Int32.not_le.mpr (by rw [nI_3]; exact nI_lt (by omega) (by omega))
    refine hX _ _ _ _ ⟨fun z => absurd z n3, fun _ => ?_⟩
    refine km_triesC (b := aQ A 15) (f := fa) hl h hi (by omega) (fun S' h' hu' => ?_)
    have htm : qkTm A (kf_attempt A l (aQ A 15) (-1) fa).2.1 := qkTm.attempt
    have hi' : qkI (T + 40) M (kf_attempt A l (aQ A 15) (-1) fa).2.1 := hi.attempt hl (by omega)
    have hcg : (kf_done (kf_attempt A l (aQ A 15) (-1) fa).2.1 f).1.isSome = (kf_done A f).1.isSome := done_cg htm.2.2.2.2.1 htm.2.2.1
    have hu1 : uF S0 S' := hu.tr hu'
    have hst : rStp S' k f := hst0.fr fun j a b => hu1.2.2 j a
    have e15 : S'.2 15 l = aLn A l 7 := (h'.2.1 l hl).2.2.2.2.2.2.1.trans (htm.2.1 l 7 (by decide) (by decide) (by decide))
    have e3 : nI (3 - (m + 1)) + 1 = nI (3 - m) := by
      rw [nI_1, show 3 - m = 3 - (m + 1) + 1 by omega]
    rw [kf_isd] at hk
    generalize kf_attempt A l (aQ A 15) (-1) fa = R at h' htm hi' hcg hk
    obtain ⟨rc, B, fb⟩ := R
    dsimp only at h' htm hi' hcg hk
    have r2 : ((if rc = 0 then (2 : Int32) else if rc = 1 then 1 else 0) = 2) ↔ rc = 0 := by
      by_cases c : rc = 0
      · rw [if_pos c]; exact ⟨fun _ => c, fun _ => rfl⟩
      · rw [if_neg c]
        refine ⟨fun z => ?_, fun z => absurd z c⟩
        by_cases c1 : rc = 1
        · rw [if_pos c1] at z; exact absurd z (by decide)
        · rw [if_neg c1] at z; exact absurd z (by decide)
    intro J hJ
    -- the step cannot be done: nothing comes of it
    have no : ∀ x : Int32, (kf_done B f).1 = none → (x = 0 ∨ (¬ x = 0 ∧ (kf_done B f).1 = none)) → J 0 x S' := by
      intro x hn hx
      have hs := done_same hn
      refine hJ _ _ _ ⟨fun z => ?_, fun z => ⟨fun _ => ?_, fun z => absurd rfl z⟩⟩
      · rw [if_neg (fun y => z (r2.mpr y))] at hk
        rw [e3]
        refine ih fb B S' (T + 40) x (by omega) h' hi' (by omega) hu1 hx ?_
        rw [hn, hs] at hk
        by_cases c7 : aLn A l 7 = 0
        · rw [if_pos c7] at hk; exact hk
        · rw [if_neg c7] at hk; exact hk
      · rw [if_pos (r2.mp z), hn, hs] at hk
        exact hk S' h' hu1.d (fun d z => by cases z)
    -- the step can be tried
    have yes : (rc = 0 ∨ ¬ aLn A l 7 = 0) → T_X8_canStep (nI k) S' (fun r15 => (r15 = 0 → J r15 ((if r15 = 0 then (1 : Int32) else (0 : Int32))) S') ∧ (¬ r15 = 0 → T_X8_doesStep (nI k) S' (fun S20 => J r15 ((if r15 = 0 then (1 : Int32) else (0 : Int32))) S20))) := by
      intro hor
      refine km_canStep h'.2.2.1 h'.2.2.2.1 hi'.1 hk4 hst hf ?_
      cases hd : (kf_done B f).1 with
      | none => exact ⟨fun _ => no _ hd (Or.inr ⟨(by decide), hd⟩), fun z => absurd rfl z⟩
      | some d =>
        refine ⟨fun z => absurd (show (1 : Int32) = 0 from z) (by decide), fun _ => ?_⟩
        refine km_doesStep h' hi' (by omega) hk4 hst hf hd (fun S2 h2 hdf hun => ?_)
        show J 1 0 S2
        refine hJ _ _ _ ⟨fun z => ?_, fun z => ⟨fun y => absurd y (by decide), fun _ => ?_⟩⟩
        · have cr : ¬ rc = 0 := fun y => z (r2.mpr y)
          have c7 : ¬ aLn A l 7 = 0 := hor.resolve_left cr
          rw [if_neg cr, if_neg c7, hd] at hk
          rw [e3]
          refine isd_own (f := f) (d := d) (M := M + 1) (S0 := S2) hl hX m fb (kf_done B f).2 S2 (T + 40) 0 (by omega) h2 (ki_done hi' (by omega)) (by omega) ⟨rfl, rfl, fun _ _ => rfl⟩ (fun S3 h3 hu3 => ?_)
          have e := (isd_some (f := f) (l := l) (d := d) (m := m) (fa := fb) (A := (kf_done B f).2)).1
          have := hk S3 h3 ((hu1.d.tr hdf).tr hu3.d) (fun d' hd' => by
            rw [e] at hd'
            cases hd'
            exact hun.fr (by rw [hu3.2.2 92 (by decide)]) (fun c _ => by rw [hu3.2.2 93 (by decide)]))
          rw [e] at this
          exact this
        · rw [if_pos (r2.mp z), hd] at hk
          exact hk S2 h2 (hu1.d.tr hdf) (fun d' hd' => by cases hd'; exact hun)
    refine ⟨fun z => absurd rfl z, fun _ => ⟨fun z => ?_, fun z => ?_⟩⟩
    · rcases hx4 with e | ⟨_, e⟩
      · exact absurd e z
      · have hn : (kf_done B f).1 = none := by
          rw [e] at hcg
          cases hd : (kf_done B f).1 with
          | none => rfl
          | some d => rw [hd] at hcg; cases hcg
        exact no x4 hn (Or.inr ⟨z, hn⟩)
    · refine ⟨fun z2 => yes (Or.inl (r2.mp z2)), fun z2 => ⟨pk_in l 3 hl, fun z7 => ?_, fun z7 => ?_⟩⟩
      · rw [nI_clamp (n := l) (by omega), e15] at z7
        have cr : ¬ rc = 0 := fun y => z2 (r2.mpr y)
        rw [if_neg cr, if_pos z7] at hk
        refine hJ _ _ _ ⟨fun _ => ?_, fun y => absurd y z2⟩
        rw [e3]
        exact ih fb B S' (T + 40) x4 (by omega) h' hi' (by omega) hu1 (Or.inl z) hk
      · rw [nI_clamp (n := l) (by omega), e15] at z7
        exact yes (Or.inr z7)
theorem km_runs {A : qkA} {v : qkAns} {S : qm_S} {T M k : Nat} {f : Nat → Int32} {K : Int32 → qm_S → Prop} (h : cC A v S) (hi : qkI T M A) (hTM : T + 120 ≤ 2 ^ 20 ∧ M + 1 ≤ 2 ^ 20) (hk4 : k < 4) (hst : rStp S k f) (hf : fOk f)
    (hk : ∀ S' : qm_S, cC (kf_isDone A f).2.2 v S' → dF k S S' → (∀ d, (kf_isDone A f).2.1 = some d → rUndo S' k f d) → K (if (kf_isDone A f).1 = true then 2 else if (kf_isDone A f).2.1.isSome = true then 1 else 0) S') : T_X8_runs (nI k) S K := by
  obtain ⟨⟨s, hs, es⟩, _⟩ := hf
  have e87 : S.2 87 k = nI s := hst.2.1.trans es
  unfold T_X8_runs
  rw [nI_clamp (n := k) (by omega), e87, fm_half hs]
  refine ⟨pk_in k 4 hk4, fun X2 hX => ?_⟩
  unfold kf_isDone at hk
  rw [es, nI_clamp (n := s) (by omega)] at hk
  exact isd_none (M := M) (by omega) hk4 hTM.2 ⟨⟨s, hs, es⟩, by assumption⟩ (fun x3 x4 x5 S6 hb => hX x3 x4 x5 S6 hb) hst 3 kf_f0 A S T 0 (by omega) h hi (by omega) ⟨rfl, rfl, fun _ _ => rfl⟩ (Or.inl rfl) hk
