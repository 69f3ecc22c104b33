/-! SQ 37: a bundle run -/
set_option maxRecDepth 100000
theorem nI_dn {n : Nat} : nI (n + 1) + (-1) = nI n := by
  have e : nI (n + 1) = nI n + 1 := by rw [nI_1]
  rw [e, Int32.add_assoc, show (1 : Int32) + (-1) = 0 by decide, Int32.add_zero]
theorem sub_1 {x : Int32} : x - 1 = x + (-1) := by
  rw [Int32.sub_eq_add_neg]
theorem nI_dn0 : nI 0 + (-1) = -1 := by decide
/-- the chain taken back -/
theorem ch_back : ∀ {ds : List qkDone} {R : Nat → List qkRow} {A : qkA} {T M : Nat}, qkI T M A → M + ds.length ≤ 2 ^ 20 → rCh (aSr A) ds R (aRow A) → aRow (kf_backs ds A) = R ∧ aSr (kf_backs ds A) = aSr A ∧ qkI T (M + ds.length) (kf_backs ds A) := by
  intro ds
  induction ds with
  | nil => intro R A T M h _ hc; exact ⟨hc, rfl, h⟩
  | cons d ds ih =>
    rintro R A T M h hM ⟨h1, h2, R1, h3, h4, h5⟩
    rw [List.length_cons] at hM
    obtain ⟨b1, b2', b3⟩ := ih h (by omega) h5
    have e0 : kf_backs (d :: ds) A = kf_back (kf_backs ds A) d := rfl
    rw [e0]
    generalize kf_backs ds A = B at b1 b2' b3
    have hrow : aRow (kf_back B d) = qkU (aRow B) d.1 (R d.1) := by
      rw [back_row, b1, h3.2.2.2]
    have hredo : kf_redo (kf_undo B d) d = sRow B (qkU (aRow B) d.1 (R d.1)) := by
      have e1 : kf_redo (kf_undo B d) d = sRow B (aRow (kf_redo (kf_undo B d) d)) := by
        obtain ⟨s, x, y⟩ := d
        cases x <;> cases y <;> rfl
      rw [e1]
      have e2 : aRow (kf_redo (kf_undo B d) d) = aRow (kf_back B d) := rfl
      rw [e2, hrow]
    refine ⟨?_, ?_, ?_⟩
    · rw [hrow, b1]
      funext s
      by_cases e : s = d.1
      · rw [e, qkU_s]
      · rw [qkU_n e, h4 s e]
    · have e1 : aSr (kf_back B d) = aSr (kf_redo (kf_undo B d) d) := rfl
      rw [e1, hredo]
      exact b2'
    · unfold kf_back
      rw [hredo, List.length_cons, ← Nat.add_assoc]
      refine qkI.written (b3.rows (h2 d.1 h1).1 (h2 d.1 h1).2.1 (fun w => ?_)) h1 (by omega)
      obtain ⟨n, n1, n2, _⟩ := (b3.1 d.1 h1).2.2.1 w
      refine ⟨n, n1, n2, (h2 d.1 h1).2.2 w n n1 ?_⟩
      rw [← b2']
      exact n2
/-- a bundle's steps, all kept -/
def rAll (bun : List (Nat → Int32)) (S : qm_S) : Prop := ∀ (j : Nat) (f : Nat → Int32), bun[j]? = some f → rStp S j f
def rUnd (bun : List (Nat → Int32)) (ds : List qkDone) (S : qm_S) : Prop := ∀ (j : Nat) (f : Nat → Int32) (d : qkDone), bun[j]? = some f → ds[j]? = some d → rUndo S j f d
def rFr (S S' : qm_S) : Prop := S'.1 0 = S.1 0 ∧ ∀ j, 86 ≤ j → S'.2 j = S.2 j
theorem km_backs {bun : List (Nat → Int32)} {A : qkA} {v : qkAns} {S0 : qm_S} {ds : List qkDone} {R : Nat → List qkRow} {T M : Nat} {X : Int32 → qm_S → Prop} {K : qm_S → Prop} (hb4 : bun.length ≤ 4) (hle : ds.length ≤ bun.length) (hok : ∀ f ∈ bun, fOk f) (hi : qkI T M A) (hTM : T ≤ 2 ^ 20 ∧ M + ds.length ≤ 2 ^ 20) (hc : rCh (aSr A) ds R (aRow A)) (hst : rAll bun S0) (hun : rUnd bun ds S0)
    (hX : ∀ (x15 : Int32) (S16 : qm_S), ((x15 < 0 → K S16) ∧ (¬ x15 < 0 → T_X8_takesBack x15 S16 (fun S18 => X (x15 + (-1)) S18))) → X x15 S16)
    (hk : ∀ S' : qm_S, cC (kf_backs ds A) v S' → S'.1 0 = S0.1 0 → K S') : ∀ (n : Nat) (S : qm_S), n ≤ ds.length → cC (kf_backs (ds.drop n) A) v S → rFr S0 S → X (nI n + (-1)) S := by
  intro n
  induction n with
  | zero =>
    intro S _ h hf
    refine hX _ _ ⟨fun _ => hk S (by rw [List.drop_zero] at h; exact h) hf.1, fun z => absurd (by rw [nI_dn0]; decide) z⟩
  | succ n ih =>
    intro S hn h hf
    have hn' : n < ds.length := by omega
    rw [nI_dn]
    refine hX _ _ ⟨fun z => absurd z (nI_pos (by omega)), fun _ => ?_⟩
    obtain ⟨f, hfb⟩ : ∃ f, bun[n]? = some f := ⟨_, List.getElem?_eq_getElem (by omega)⟩
    have hdn : ds[n]? = some ds[n] := List.getElem?_eq_getElem hn'
    have hdrop : ds.drop n = ds[n] :: ds.drop (n + 1) := List.drop_eq_getElem_cons hn'
    have hsp : ds = ds.take n ++ (ds[n] :: ds.drop (n + 1)) := by rw [← hdrop, List.take_append_drop]
    generalize hd : ds[n] = d at hdn hdrop hsp
    have hc2 := hc
    rw [hsp] at hc2
    obtain ⟨Rm, _, g1, g2, R1, g3, g4, g5⟩ := hc2.split
    have hlen : (ds.drop (n + 1)).length ≤ ds.length := by rw [List.length_drop]; omega
    obtain ⟨b1, b2', b3⟩ := ch_back hi (by omega) g5
    have st : rStp S n f := (hst n f hfb).fr fun j a _ => hf.2 j a
    have un : rUndo S n f d := (hun n f d hfb hdn).fr (by rw [hf.2 92 (by decide)]) (fun c _ => by rw [hf.2 93 (by decide)])
    refine km_takesBack (M := M + (ds.drop (n + 1)).length) h b3 (by omega) (by omega) st (hok f (List.mem_of_getElem? hfb)) un (R := Rm d.1) (by rw [b1]; exact g3) (g2 d.1 g1).1.1 (g2 d.1 g1).2.1 (fun S' h' e0 e85 => ?_)
    refine ih S' (by omega) ?_ ⟨e0.trans hf.1, fun j hj => ((e85 j (by omega)).2).trans (hf.2 j hj)⟩
    rw [hdrop]
    exact h'
/-- the run, from a step on -/
theorem km_runF {bun : List (Nat → Int32)} {v : qkAns} {z0 : Int32} {R0 : Nat → List qkRow} {X : Int32 → qm_S → Prop} {K : Int32 → qm_S → Prop} (hb4 : bun.length ≤ 4) (hok : ∀ f ∈ bun, fOk f)
    (hX : ∀ (x5 : Int32) (S6 : qm_S), ((nI bun.length ≤ x5 → K (-1) S6) ∧ (¬ nI bun.length ≤ x5 → T_X8_runs x5 S6 (fun r8 S10 => (2 ≤ r8 → X (x5 + 1) S10) ∧ (¬ 2 ≤ r8 → ∀ X14 : Int32 → qm_S → Prop, (∀ (x15 : Int32) (S16 : qm_S), ((x15 < 0 → K x5 S16) ∧ (¬ x15 < 0 → T_X8_takesBack x15 S16 (fun S18 => X14 (x15 + (-1)) S18))) → X14 x15 S16) → X14 ((if r8 = 1 then x5 else x5 - 1)) S10)))) → X x5 S6) : ∀ (fs : List (Nat → Int32)) (pre : List (Nat → Int32)) (ds : List qkDone) (A : qkA) (S : qm_S) (T M : Nat), bun = pre ++ fs → ds.length = pre.length → cC A v S → qkI T M A → T + 120 * fs.length ≤ 2 ^ 20 → M + 8 + fs.length ≤ 2 ^ 20 → rCh (aSr A) ds R0 (aRow A) → rAll bun S → rUnd bun ds S → S.1 0 = z0 →
    (∀ S' : qm_S, cC (if (kf_runF fs pre.length ds A).1 = -1 then (kf_runF fs pre.length ds A).2.2 else kf_backs (kf_runF fs pre.length ds A).2.1 (kf_runF fs pre.length ds A).2.2) v S' → S'.1 0 = z0 → K (kf_runF fs pre.length ds A).1 S') → X (nI pre.length) S := by
  intro fs
  induction fs with
  | nil =>
    intro pre ds A S T M e _ h _ _ _ _ _ _ hz hk
    rw [List.append_nil] at e
    refine hX _ _ ⟨fun _ => hk S h hz, fun z => absurd (by rw [e]; exact Int32.le_refl _) z⟩
  | cons f t ih =>
    intro pre ds A S T M e hl h hi hT hM hc hst hun hz hk
    rw [List.length_cons] at hT hM
    have hlen : bun.length = pre.length + (t.length + 1) := by rw [e, List.length_append, List.length_cons]
    have hn : ¬ nI bun.length ≤ nI pre.length := Int32.not_le.mpr (nI_lt (by omega) (by omega))
    refine hX _ _ ⟨fun z => absurd z hn, fun _ => ?_⟩
    have hfb : bun[pre.length]? = some f := by rw [e, List.getElem?_append_right (Nat.le_refl _), Nat.sub_self]; rfl
    have hfo : fOk f := hok f (List.mem_of_getElem? hfb)
    have hl3 : (f 1).toNatClampNeg / 2 < 3 := by
      obtain ⟨⟨s, hs, es⟩, _⟩ := hfo
      rw [es, nI_clamp (n := s) (by omega)]
      omega
    obtain ⟨i1, i2, i3⟩ := isd_step (f := f) (fa := kf_f0) hl3 (by omega) hfo hi (m := 3) (by omega) hc
    have ei : kf_isd f ((f 1).toNatClampNeg / 2) 3 none kf_f0 A = kf_isDone A f := rfl
    rw [ei] at i1 i2 i3
    refine km_runs h hi (by omega) (by omega) (hst _ _ hfb) hfo (fun S' h' hdf hu => ?_)
    rw [kf_runF] at hk
    generalize kf_isDone A f = Q at i1 i2 i3 h' hu hk
    obtain ⟨ok, own, B⟩ := Q
    dsimp only at i1 i2 i3 h' hu hk ⊢
    have hst' : rAll bun S' := fun j g hg => (hst j g hg).fr hdf.2.2.1
    have hz' : S'.1 0 = z0 := hdf.1.trans hz
    have hlt : own.toList.length ≤ 1 := by cases own <;> simp
    have hun' : rUnd bun (ds ++ own.toList) S' := by
      intro j g d hg hd
      by_cases c : j < ds.length
      · rw [List.getElem?_append_left c] at hd
        have hjp : j ≠ pre.length := by omega
        exact (hun j g d hg hd).fr (hdf.2.2.2.1 j hjp) (fun c hc => hdf.2.2.2.2 _ (by omega))
      · rw [List.getElem?_append_right (by omega)] at hd
        cases own with
        | none => simp at hd
        | some d' =>
          have hj : j - ds.length = 0 := by
            by_cases z : j - ds.length = 0
            · exact z
            · obtain ⟨q, hq⟩ : ∃ q, j - ds.length = q + 1 := ⟨j - ds.length - 1, by omega⟩
              rw [hq] at hd
              simp at hd
          rw [hj] at hd
          simp at hd
          subst hd
          have ej : j = pre.length := by omega
          rw [ej] at hg ⊢
          rw [hfb] at hg
          injection hg with hg
          subst hg
          exact hu _ rfl
    by_cases c : ok = true
    · rw [if_pos c] at hk
      rw [if_pos c]
      refine ⟨fun _ => ?_, fun z => absurd (by decide) z⟩
      have hs1 := i3 c
      obtain ⟨d, rfl⟩ := Option.isSome_iff_exists.mp hs1
      have e1 : nI pre.length + 1 = nI (pre ++ [f]).length := by rw [nI_1, List.length_append]; rfl
      have e2 : pre.length + 1 = (pre ++ [f]).length := by rw [List.length_append]; rfl
      rw [e1]
      rw [e2] at hk
      refine ih (pre ++ [f]) (ds ++ [d]) B S' (T + 120) (M + 1) (by rw [e, List.append_assoc]; rfl) (by rw [List.length_append, List.length_append, hl]; rfl) h' i1 (by omega) (by omega) i2 hst' hun' hz' hk
    · rw [if_neg c] at hk
      rw [if_neg c]
      dsimp only at hk
      rw [if_neg (nI_nm1 (by omega))] at hk
      refine ⟨fun z => ?_, fun _ X14 hX14 => ?_⟩
      · exfalso
        cases own with
        | none => exact absurd (show (2 : Int32) ≤ 0 from z) (by decide)
        | some d => exact absurd (show (2 : Int32) ≤ 1 from z) (by decide)
      · have hq : (if (if own.isSome = true then (1 : Int32) else 0) = 1 then nI pre.length else nI pre.length - 1) = nI (ds ++ own.toList).length + (-1) := by
          cases own with
          | none =>
            have e9 : ds ++ (none : Option qkDone).toList = ds := List.append_nil ds
            rw [e9, hl, ← sub_1]
            exact if_neg (by rw [if_neg (by decide)]; decide)
          | some d =>
            show nI pre.length = nI (ds ++ [d]).length + _
            rw [List.length_append, hl]
            exact nI_dn.symm
        rw [hq]
        refine km_backs (bun := bun) (A := B) (v := v) (S0 := S') (ds := ds ++ own.toList) (R := R0) (T := T + 120) (M := M + 1) (K := K (nI pre.length)) hb4 (by rw [List.length_append]; omega) hok i1 (by rw [List.length_append]; omega) i2 hst' hun' hX14 (fun S2 h2 e0 => hk S2 h2 (e0.trans hz')) _ S' (Nat.le_refl _) ?_ ⟨rfl, fun _ _ => rfl⟩
        rw [List.drop_length]
        exact h'
