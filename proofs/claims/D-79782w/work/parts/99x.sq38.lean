/-! SQ 38: the run, joined -/
set_option maxRecDepth 100000
theorem iB_ok {A : qkA} (h : iB A) : ∀ f ∈ aBun A, fOk f := fun f hf => h.2 f hf
theorem qkI.sb {T M : Nat} {A : qkA} (h : qkI T M A) : qkI T M (sBun A []) := by
  obtain ⟨hR, hL, hF, hD, _, hT, hE⟩ := h
  exact ⟨hR, hL, hF, hD, ⟨Nat.zero_le _, fun f hf => absurd (show f ∈ ([] : List (Nat → Int32)) from hf) (by simp)⟩, hT, hE⟩
theorem runF_ki {R0 : Nat → List qkRow} : ∀ {fs : List (Nat → Int32)} {k : Nat} {ds : List qkDone} {A : qkA} {T M : Nat}, (∀ f ∈ fs, fOk f) → qkI T M A → T + 120 * fs.length ≤ 2 ^ 20 → M + fs.length ≤ 2 ^ 20 → rCh (aSr A) ds R0 (aRow A) →
    qkI (T + 120 * fs.length) (M + fs.length) (kf_runF fs k ds A).2.2 ∧ rCh (aSr (kf_runF fs k ds A).2.2) (kf_runF fs k ds A).2.1 R0 (aRow (kf_runF fs k ds A).2.2) ∧ (kf_runF fs k ds A).2.1.length ≤ ds.length + fs.length := by
  intro fs
  induction fs with
  | nil => intro k ds A T M _ h _ _ hc; exact ⟨h, hc, Nat.le_refl _⟩
  | cons f t ih =>
    intro k ds A T M hok h hT hM hc
    rw [List.length_cons] at hT hM ⊢
    have hfo : fOk f := hok f (List.mem_cons_self ..)
    have hl3 : (f 1).toNatClampNeg / 2 < 3 := by
      obtain ⟨⟨s, hs, es⟩, _⟩ := hfo
      rw [es, nI_clamp (n := s) (by omega)]
      omega
    obtain ⟨i1, i2, i3⟩ := isd_step (f := f) (fa := kf_f0) hl3 (by omega) hfo h (m := 3) (by omega) hc
    have ei : kf_isd f ((f 1).toNatClampNeg / 2) 3 none kf_f0 A = kf_isDone A f := rfl
    rw [ei] at i1 i2 i3
    rw [kf_runF]
    generalize kf_isDone A f = Q at i1 i2 i3
    obtain ⟨ok, own, B⟩ := Q
    dsimp only at i1 i2 i3 ⊢
    have hlt : own.toList.length ≤ 1 := by cases own <;> simp
    by_cases c : ok = true
    · rw [if_pos c]
      obtain ⟨g1, g2, g3⟩ := ih (k := k + 1) (ds := ds ++ own.toList) (A := B) (T := T + 120) (M := M + 1) (fun g hg => hok g (List.mem_cons_of_mem _ hg)) i1 (by omega) (by omega) i2
      refine ⟨g1.le (by omega) (by omega), g2, ?_⟩
      rw [List.length_append] at g3
      omega
    · rw [if_neg c]
      refine ⟨i1.le (by omega) (by omega), i2, ?_⟩
      show (ds ++ own.toList).length ≤ _
      rw [List.length_append]
      omega
section
variable {A : qkA} {v : qkAns} {S : qm_S} {T M : Nat}
theorem run_ki (hi : qkI T M A) (hT : T + 480 ≤ 2 ^ 20) (hM : M + 8 ≤ 2 ^ 20) : qkI (T + 480) (M + 4) (kf_runF (aBun A) 0 [] A).2.2 ∧ rCh (aSr (kf_runF (aBun A) 0 [] A).2.2) (kf_runF (aBun A) 0 [] A).2.1 (aRow A) (aRow (kf_runF (aBun A) 0 [] A).2.2) ∧ (kf_runF (aBun A) 0 [] A).2.1.length ≤ 4 := by
  have hB := hi.2.2.2.2.1
  have h4 := hB.1
  obtain ⟨g1, g2, g3⟩ := runF_ki (R0 := aRow A) (fs := aBun A) (k := 0) (ds := []) (iB_ok hB) hi (by omega) (by omega) rfl
  exact ⟨g1.le (by omega) (by omega), g2, by rw [List.length_nil] at g3; omega⟩
/-- what kt_run asks of the steps done -/
theorem run_pre (hi : qkI T M A) (hT : T + 480 ≤ 2 ^ 20) (hM : M + 8 ≤ 2 ^ 20) : (kf_runF (aBun A) 0 [] A).1 ≠ -1 → ∀ a d b, (kf_runF (aBun A) 0 [] A).2.1 = a ++ d :: b → (∀ r, d.2.2 = some r → ∃ k, kf_at (aRow (kf_backs b (kf_runF (aBun A) 0 [] A).2.2) d.1) r.1 = some k) ∧ (aRow (kf_backs b (kf_runF (aBun A) 0 [] A).2.2) d.1).length ≤ 12 := by
  intro _ a d b e
  obtain ⟨g1, g2, g3⟩ := run_ki hi hT hM
  rw [e] at g2 g3
  obtain ⟨Rm, _, k1, k2, R1, k3, k4, k5⟩ := g2.split
  rw [List.length_append, List.length_cons] at g3
  obtain ⟨b1, _, _⟩ := ch_back g1 (by omega) k5
  rw [b1]
  exact ⟨fun r hr => by obtain ⟨k, hk, _⟩ := k3.2.2.1 r hr; exact ⟨k, hk⟩, k3.2.1⟩
theorem ki_run (hi : qkI T M A) (hT : T + 480 ≤ 2 ^ 20) (hM : M + 8 ≤ 2 ^ 20) : qkI (T + 480) (M + 8) (kf_runB A).2.2 := by
  obtain ⟨g1, g2, g3⟩ := run_ki hi hT hM
  unfold kf_runB
  by_cases c : (aBun A).length = 0
  · rw [if_pos c]
    exact hi.le (by omega) (by omega)
  rw [if_neg c]
  dsimp only
  by_cases c1 : (kf_runF (aBun A) 0 [] A).1 = -1
  · rw [if_pos c1]
    exact (g1.le (Nat.le_refl _) (by omega)).sb
  · rw [if_neg c1]
    obtain ⟨_, _, b3⟩ := ch_back g1 (by omega) g2
    exact (b3.le (Nat.le_refl _) (by omega)).sb
theorem km_run {K : Int32 → qm_S → Prop} (h : cC A v S) (hi : qkI T M A) (hT : T + 480 ≤ 2 ^ 20) (hM : M + 12 ≤ 2 ^ 20) (hk : kM (kf_runB A) v K) : T_X8_run S K := by
  have hB := hi.2.2.2.2.1
  have h4 := hB.1
  obtain ⟨h85, hst⟩ := h.2.2.2.2.2.2.1
  unfold T_X8_run
  unfold kf_runB at hk
  by_cases c : (aBun A).length = 0
  · rw [if_pos c] at hk
    have e : S.1 85 = 0 := by rw [h85, c]; rfl
    rw [e, if_pos rfl]
    exact ⟨fun z => absurd z (by decide), fun _ => hk.bad (by decide) h⟩
  · rw [if_neg c] at hk
    have e : ¬ S.1 85 = 0 := by
      rw [h85]
      intro z
      exact c (nI_eq60 (b := 0) (by omega) (by omega) z)
    rw [if_neg e]
    refine ⟨fun _ X hX => ?_, fun z => absurd (by decide) z⟩
    rw [h85] at hX
    obtain ⟨hT', hL, hR, hS, hD, hE, _, hA⟩ := h
    have hC : cC (sBun A []) v (upd (upd S.1 0 0) 85 0, S.2) := ⟨hT', hL, hR, hS, hD, hE, ⟨rfl, fun k f z => by cases z⟩, hA⟩
    refine km_runF (bun := aBun A) (v := v) (z0 := 0) (R0 := aRow A) (X := X) (K := K) h4 (iB_ok hB) hX (aBun A) [] [] (sBun A []) _ T M rfl rfl hC hi.sb (by omega) (by omega) rfl (fun j f hf => hst j f hf) (fun j f d _ hd => by cases hd) rfl (fun S' h' e0 => ?_)
    show K (kf_runF (aBun A) 0 [] (sBun A [])).1 S'
    have h' : cC (if (kf_runF (aBun A) 0 [] (sBun A [])).1 = -1 then (kf_runF (aBun A) 0 [] (sBun A [])).2.2 else kf_backs (kf_runF (aBun A) 0 [] (sBun A [])).2.1 (kf_runF (aBun A) 0 [] (sBun A [])).2.2) v S' := h'
    rw [runF_sb] at h' ⊢
    dsimp only at h' ⊢
    refine hk _ S' e0 (fun _ => rfl) ?_
    dsimp only
    by_cases c1 : (kf_runF (aBun A) 0 [] A).1 = -1
    · rw [if_pos c1] at h' ⊢
      exact h'
    · rw [if_neg c1] at h' ⊢
      rw [backs_sb] at h'
      exact h'
end
