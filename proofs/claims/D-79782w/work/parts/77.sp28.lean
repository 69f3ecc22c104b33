/-! SP 28: a step done, and taken back -/
set_option maxRecDepth 100000
section
variable {g : qh_G} {L : Nat → Nat} {J h : qc_H} {A : qkA} {c : Nat}
theorem kt_done {p : Nat} {f : Nat → Int32} {e0 : Nat} {K : Option Nat → qc_H → Prop} (R : qkRep g L J h A) (hp : isStep g J p f) (hs1 : ∃ s, s < 6 ∧ f 1 = nI s) (hwl : ∀ s, s < 6 → (aWr A s).length ≤ 600) (hml : (aMsg A).length ≤ 600) (he : (kf_done A f).1 ≠ none → e0 = 1900) (hc : 105 + e0 ≤ c)
    (hk : ∀ J' h' o, qkJs J J' → qkFr L h h' → qkRep g L J' h' (kf_done A f).2 → ((kf_done A f).1 = none → o = none) → (∀ d, (kf_done A f).1 = some d → ∃ q, o = some q ∧ isDn g L J' q d) → K o h') : T_X1_done g (L 0) p h c K := by
  unfold T_X1_done
  obtain ⟨s, hs, hf1⟩ := hs1
  have hp' : h p = some (.inl (.inl (g.2.2.2.1 0, 6, .inl f))) := R.jh _ _ hp
  have v0 : vp_in (0 : Int32) 6 := (vp_in_nI (by decide) (by decide) : vp_in (nI 0) 6)
  have v1 : vp_in (1 : Int32) 6 := (vp_in_nI (by decide) (by decide) : vp_in (nI 1) 6)
  have v2 : vp_in (2 : Int32) 6 := (vp_in_nI (by decide) (by decide) : vp_in (nI 2) 6)
  have v3 : vp_in (3 : Int32) 6 := (vp_in_nI (by decide) (by decide) : vp_in (nI 3) 6)
  have v4 : vp_in (4 : Int32) 6 := (vp_in_nI (by decide) (by decide) : vp_in (nI 4) 6)
  have v5 : vp_in (5 : Int32) 6 := (vp_in_nI (by decide) (by decide) : vp_in (nI 5) 6)
  have hcl : (f 1).toNatClampNeg = s := by rw [hf1]; exact nI_clamp (by omega)
  refine ⟨_, _, R.x, rfl, 6, f, hp', v1, 6, _, _, R.srcs, by show vp_in (f 1) 6; rw [hf1]; exact vp_in_nI hs (by decide), rfl, 6, f, hp', v0, ?_⟩
  have hsr : L (16 + (f (Int32.toNatClampNeg 1)).toNatClampNeg) = L (16 + s) := by show L (16 + (f 1).toNatClampNeg) = _; rw [hcl]
  rw [hsr]
  unfold kf_done at he hk
  rw [hcl] at he hk
  refine ⟨fun z => ?_, fun z => ?_⟩
  · have z : ¬ f 0 = 0 := z
    rw [if_neg z] at he hk
    refine ⟨6, f, hp', v2, kt_find R hs fun o1 ho1 => ⟨6, f, hp', v0, fun z1 => ?_, fun z1 => ?_⟩⟩
    · -- removed
      have z1 : ¬ f 0 = 1 := z1
      rw [if_neg z1] at he hk
      refine ⟨6, f, hp', v1, 6, f, hp', v2, ⟨_, R.x⟩, ek (100 + e0) (by omega) (kt_remove (e0 := e0) R hwl hml (fun q => he (by have q' : (kf_remove A (f 1) (f 2)).1 = 0 := q; rw [if_pos q']; intro y; cases y)) (Nat.le_refl _) fun J1 h1 j1 F1 R1 => ⟨fun q => ?_, fun i E hE q => ?_⟩)⟩
      · have q : (kf_remove A (f 1) (f 2)).1 = 0 := q
        rw [if_pos q] at hk
        refine ⟨c - (100 + e0) - 5, by omega, fun w hw => kt_mk R1 hs (ho1.mono j1.1) (show isOpt g J1 none none from ⟨fun _ => rfl, fun q hq => by cases hq⟩) hw fun J2 h2 j2 F2 R2 d2 => hk J2 h2 _ (j1.tr j2) (F1.tr F2) R2 (fun y => by cases y) fun d hd => ?_⟩
        cases hd
        exact ⟨w, rfl, d2⟩
      · have hn : ¬ (kf_remove A (f 1) (f 2)).1 = 0 := by
          have q : (kf_remove A (f 1) (f 2)).1 = nI (i + 1) := q
          intro y
          rw [y] at q
          match i, hE with
          | 0, _ => exact absurd q (by decide)
          | i + 1, hE => simp at hE
        rw [if_neg hn] at hk
        match i, hE with
        | 0, hE =>
          cases hE
          exact ⟨rfl, fun _ => hk J1 h1 none j1 F1 R1 (fun _ => rfl) (fun d hd => by cases hd)⟩
        | i + 1, hE => simp at hE
    · -- changed
      have z1 : f 0 = 1 := z1
      rw [if_pos z1] at he hk
      refine ⟨6, f, hp', v1, 6, f, hp', v2, 6, f, hp', v3, 6, f, hp', v4, ⟨_, R.x⟩, ek (100 + e0) (by omega) (kt_change (e0 := e0) R hwl hml (fun q => he (by have q' : (kf_change A (f 1) (f 2) (f 3) (f 4)).1 = 0 := q; rw [if_pos q']; intro y; cases y)) (Nat.le_refl _) fun J1 h1 j1 F1 R1 => ⟨fun q => ?_, fun i E hE q => ?_⟩)⟩
      · have q : (kf_change A (f 1) (f 2) (f 3) (f 4)).1 = 0 := q
        rw [if_pos q] at hk
        refine ⟨c - (100 + e0) - 5, by omega, fun w hw => ?_⟩
        have R2 := R1.other (e := .inl (.inr (15, [.null, .null, .null, .null]))) (R1.fresh hw) (R1.Jn hw)
        refine ⟨6, f, R2.jh _ _ (j1.1 _ _ hp), v2, kt_find R2 hs fun o2 ho2 => kt_mk R1 hs (ho1.mono j1.1) ho2 hw fun J2 h2 j2 F2 R2 d2 => hk J2 h2 _ (j1.tr j2) (F1.tr F2) R2 (fun y => by cases y) fun d hd => ?_⟩
        cases hd
        exact ⟨w, rfl, d2⟩
      · have hn : ¬ (kf_change A (f 1) (f 2) (f 3) (f 4)).1 = 0 := by
          have q : (kf_change A (f 1) (f 2) (f 3) (f 4)).1 = nI (i + 1) := q
          intro y
          rw [y] at q
          match i, hE with
          | 0, _ => exact absurd q (by decide)
          | 1, _ => exact absurd q (by decide)
          | i + 2, hE => simp at hE
        rw [if_neg hn] at hk
        match i, hE with
        | 0, hE =>
          cases hE
          exact Or.inr ⟨rfl, fun _ => hk J1 h1 none j1 F1 R1 (fun _ => rfl) (fun d hd => by cases hd)⟩
        | 1, hE =>
          cases hE
          exact Or.inl ⟨rfl, fun _ => hk J1 h1 none j1 F1 R1 (fun _ => rfl) (fun d hd => by cases hd)⟩
        | i + 2, hE => simp at hE
  · have z : f 0 = 0 := z
    rw [if_pos z] at he hk
    refine ⟨6, f, hp', v1, 6, f, hp', v2, 6, f, hp', v3, 6, f, hp', v4, 6, f, hp', v5, ⟨_, R.x⟩, ek (100 + e0) (by omega) (kt_add (e0 := e0) R hwl hml (fun q => he (by have q' : (kf_add A (f 1) (f 2) (f 3) (f 4) (f 5)).1 = 0 := q; rw [if_pos q']; intro y; cases y)) (Nat.le_refl _) fun J1 h1 j1 F1 R1 => ⟨fun q => ?_, fun i E hE q => ?_⟩)⟩
    · have q : (kf_add A (f 1) (f 2) (f 3) (f 4) (f 5)).1 = 0 := q
      rw [if_pos q] at hk
      refine ⟨c - (100 + e0) - 5, by omega, fun w hw => ?_⟩
      have R2 := R1.other (e := .inl (.inr (15, [.null, .null, .null, .null]))) (R1.fresh hw) (R1.Jn hw)
      refine kt_find R2 hs fun o2 ho2 => kt_mk R1 hs (show isOpt g J1 none none from ⟨fun _ => rfl, fun q hq => by cases hq⟩) ho2 hw fun J2 h2 j2 F2 R2 d2 => hk J2 h2 _ (j1.tr j2) (F1.tr F2) R2 (fun y => by cases y) fun d hd => ?_
      cases hd
      exact ⟨w, rfl, d2⟩
    · have hn : ¬ (kf_add A (f 1) (f 2) (f 3) (f 4) (f 5)).1 = 0 := by
        have q : (kf_add A (f 1) (f 2) (f 3) (f 4) (f 5)).1 = nI (i + 1) := q
        intro y
        rw [y] at q
        match i, hE with
        | 0, _ => exact absurd q (by decide)
        | 1, _ => exact absurd q (by decide)
        | 2, _ => exact absurd q (by decide)
        | i + 3, hE => simp at hE
      rw [if_neg hn] at hk
      match i, hE with
      | 0, hE =>
        cases hE
        exact Or.inr (Or.inl ⟨rfl, fun _ => hk J1 h1 none j1 F1 R1 (fun _ => rfl) (fun d hd => by cases hd)⟩)
      | 1, hE =>
        cases hE
        exact Or.inl ⟨rfl, fun _ => hk J1 h1 none j1 F1 R1 (fun _ => rfl) (fun d hd => by cases hd)⟩
      | 2, hE =>
        cases hE
        exact Or.inr (Or.inr ⟨rfl, fun _ => hk J1 h1 none j1 F1 R1 (fun _ => rfl) (fun d hd => by cases hd)⟩)
      | i + 3, hE => simp at hE
end
