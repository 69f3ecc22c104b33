/-! SP 33: a bundle run, joined -/
set_option maxRecDepth 100000
section
variable {g : qh_G} {L : Nat → Nat} {J h : qc_H} {A : qkA} {c : Nat}
theorem kt_run {k0 : Nat} {K : Int32 → qc_H → Prop} {KX : String → qc_H → Prop} (R : qkRep g L J h A) (hb4 : (aBun A).length ≤ 4) (hst : ∀ f ∈ aBun A, ∃ s, s < 6 ∧ f 1 = nI s) (hw : qkWb k0 A) (hk0 : k0 + 8 ≤ 600) (hc : 17500 ≤ c)
    (hpre : (kf_runF (aBun A) 0 [] A).1 ≠ -1 → ∀ a d b, (kf_runF (aBun A) 0 [] A).2.1 = a ++ d :: b → (∀ r, d.2.2 = some r → ∃ k, kf_at (aRow (kf_backs b (kf_runF (aBun A) 0 [] A).2.2) d.1) r.1 = some k) ∧ (aRow (kf_backs b (kf_runF (aBun A) 0 [] A).2.2) d.1).length ≤ 12)
    (k1 : (aBun A).length = 0 → KX xS h) (k2 : ¬ (aBun A).length = 0 → ∀ J' h', qkJs J J' → qkRep g L J' h' (kf_runB A).2.2 → qkFr L h h' → K (kf_runB A).2.1 h') : T_X1_run g (L 0) h c K KX := by
  unfold T_X1_run
  refine ⟨_, _, R.x, rfl, rl_empty R.bun fun J4 hJ4 => ?_⟩
  by_cases hz : (aBun A).length = 0
  · refine ⟨fun _ => hJ4 0 (ek 7 (by omega) (kt_allowed (Nat.le_refl 7) (fun q => absurd rfl q) (fun _ => k1 hz))), fun z => ?_⟩
    rw [if_pos hz] at z
    exact absurd z (by decide)
  refine ⟨fun z => absurd (by rw [if_neg hz]) z, fun _ => hJ4 1 (ek 7 (by omega) (kt_allowed (Nat.le_refl 7) (fun _ => ?_) (fun q => absurd q (by decide))))⟩
  have hk := k2 hz
  unfold kf_runB at hk
  rw [if_neg hz] at hk
  dsimp only at hk
  clear k1 k2 hJ4
  refine kt_newL (by omega) fun al hal => ?_
  have halF := R.fresh hal
  have halJ := R.Jn hal
  generalize hRES : kf_runF (aBun A) 0 [] A = RES at hk hpre
  intro X hX
  have nofr : ∀ {h1 : qc_H}, qkFx L (fun a => a = al) h h1 → qkFr L h h1 := fun F a ha hn => F a ha (fun z => hn (by rw [show a = al from z]; exact hal)) hn
  -- behind the loop over the steps
  have fin : ∀ (k : Nat) (J1 h1 : qc_H) (c1 : Nat), qkJs J J1 → qkRep g L J1 h1 RES.2.2 → aBun RES.2.2 = aBun A → qkR (isDn g L J1) h1 al RES.2.1 → RES.2.1.length ≤ 4 → J1 al = none → qkFx L (fun a => a = al) h h1 → qkWb (k0 + 4) RES.2.2 → 1890 * 4 ≤ c1 → ((aBun A).length ≤ k ∨ ¬ RES.1 = -1) → k ≤ 5 → X RES.1 (nI k) h1 c1 := by
    intro k J1 h1 c1 j1 R1 hbu hal1 hdl halJ1 F1 hw1 hc1 hend hk5
    refine hX _ _ _ _ ⟨_, _, R1.x, rfl, rl_size R1.bun fun J30 hJ30 => ?_⟩
    have go : J30 := by
      refine hJ30 (rl_size hal1 fun X32 hX32 => ?_)
      have last : ∀ J2 h2, qkJs J J2 → qkRep g L J2 h2 (if RES.1 = -1 then RES.2.2 else kf_backs RES.2.1 RES.2.2) → qkFr L h h2 → ∀ J42 : Prop, ((eR h2 (L 0) 0 9 (fun v43 => eCl h2 v43 (fun h44 => K RES.1 h44))) → J42) → J42 := by
        intro J2 h2 j2 R2 F2 J42 hJ42
        refine hJ42 ⟨_, _, R2.x, rfl, rl_clear R2.bun ?_⟩
        exact hk J2 _ j2 (R2.pBun qkL.nil (Nat.zero_le _)) (F2.tr (qkFr.up (by omega)))
      by_cases he : RES.1 = -1
      · have last' := last J1 h1 j1 (by rw [if_pos he]; exact R1) (nofr F1)
        exact hX32 _ _ _ fun J42 hJ42 => ⟨fun _ => last' J42 hJ42, fun _ => ⟨fun _ => last' J42 hJ42, fun z => absurd he z⟩⟩
      · refine kt_backs (X := X32) (K := fun _ => True) halF RES.2.1.length RES.2.1 [] RES.2.2 J1 h1 c1 (k0 + 4) rfl R1 (by rw [List.append_nil]; exact hal1) hw1 (by omega) (by omega) (hpre he) (fun k h3 c3 J3 A3 d p R3 d3 hx q1 q2 q3 q4 q5 q6 => ?_) (fun J2 h2 c2 j2 R2 F2 => ?_)
        · obtain ⟨xs, x1, x2, x3⟩ := hx
          have hd : h3 p = some _ := R3.jh _ _ d3.2.choose_spec.choose_spec.1
          have hkn : k < xs.length := by
            rw [List.getElem?_eq_some_iff] at x3
            exact x3.1
          refine hX32 _ _ _ fun J42 hJ42 => ⟨fun z => absurd z (nI_pos (by omega)), fun _ => ⟨fun z => absurd z he, fun _ => ⟨xs, k, p, x1, x2, rfl, x3, ⟨_, hd⟩, ⟨_, hd⟩, ek 1890 q5 (kt_takeBack R3 d3 q1 q2 q3 q4 (Nat.le_refl _) fun J4 h4 j4 R4 F4 => ?_)⟩⟩⟩
          have := q6 J4 h4 j4 R4 F4
          rw [Int32.sub_eq_add_neg] at this
          exact this
        · have last' := last J2 h2 (j1.tr j2) (by rw [if_neg he]; exact R2) ((nofr F1).tr F2)
          exact hX32 _ _ _ fun J42 hJ42 => ⟨fun _ => last' J42 hJ42, fun z => absurd (by decide) z⟩
    refine ⟨fun _ => go, fun z => ⟨fun _ => go, fun z1 => ?_⟩⟩
    rcases hend with q | q
    · exact absurd (nI_le (by rw [hbu]; exact q) (by omega)) z
    · exact absurd z1 q
  have key : ∀ (m k : Nat) (ds : List qkDone) (A1 : qkA) (J1 h1 : qc_H) (c1 : Nat), k + m = (aBun A).length → kf_runF ((aBun A).drop k) k ds A1 = RES → ds.length ≤ k → qkJs J J1 → qkRep g L J1 h1 A1 → aBun A1 = aBun A → qkR (isDn g L J1) h1 al ds → J1 al = none → qkFx L (fun a => a = al) h h1 → qkWb (k0 + k) A1 → 2400 * m + 1890 * 4 ≤ c1 → X (-1) (nI k) h1 c1 := by
    intro m
    induction m with
    | zero =>
      intro k ds A1 J1 h1 c1 hkm heq hdl j1 R1 hbu hal1 halJ1 F1 hw1 hc1
      rw [List.drop_of_length_le (by omega), kf_runF] at heq
      rw [← heq] at fin
      exact fin k J1 h1 c1 j1 R1 hbu hal1 (show ds.length ≤ 4 by omega) halJ1 F1 (wb_le hw1 (by omega)) (by omega) (Or.inl (by omega)) (by omega)
    | succ m ih =>
      intro k ds A1 J1 h1 c1 hkm heq hdl j1 R1 hbu hal1 halJ1 F1 hw1 hc1
      have hkl : k < (aBun A).length := by omega
      rw [List.drop_eq_getElem_cons hkl, kf_runF] at heq
      have hs1 := hst _ (List.getElem_mem hkl)
      have hg : (aBun A1)[k]? = some (aBun A)[k] := by rw [hbu]; exact List.getElem?_eq_getElem hkl
      generalize (aBun A)[k] = f at heq hs1 hg
      refine hX _ _ _ _ ⟨_, _, R1.x, rfl, rl_size R1.bun fun J30 hJ30 => ⟨fun z => absurd z (nI_ge (by rw [hbu]; exact hkl) (by rw [hbu]; omega)), fun _ => ⟨fun z => absurd rfl z, fun _ => ⟨_, _, R1.x, rfl, rl_get R1.bun rfl hg fun p hp => ?_⟩⟩⟩⟩
      have hp' : h1 p = some (.inl (.inl (g.2.2.2.1 0, 6, .inl f))) := R1.jh _ _ hp
      refine ⟨⟨_, hp'⟩, ⟨_, R1.x⟩, ek 2400 (by omega) (kt_isDone R1 hp hs1 hal1 halF halJ1 (by omega) hw1 (by omega) (Nat.le_refl _) fun J2 h2 j2 R2 hal2 halJ2 F2 => ?_)⟩
      have hw2 : qkWb (k0 + (k + 1)) (kf_isDone A1 f).2.2 := isd_wb (fun _ => hw1) (wb_le hw1 (Nat.le_succ _))
      have hb2 : aBun (kf_isDone A1 f).2.2 = aBun A := isd_bun.trans hbu
      have hd2 : (ds ++ (kf_isDone A1 f).2.1.toList).length ≤ k + 1 := by
        rw [List.length_append]
        cases (kf_isDone A1 f).2.1 with
        | none => show ds.length + 0 ≤ _; omega
        | some d => show ds.length + 1 ≤ _; omega
      intro J28 hJ28
      rw [nI_1] at hJ28
      refine ⟨fun z => ?_, fun z => ?_⟩
      · have hb := b2_eq0.mp z
        rw [if_neg (by rw [hb]; decide)] at heq
        rw [← heq] at fin
        exact hJ28 _ (fin (k + 1) J2 h2 _ (j1.tr j2) R2 hb2 hal2 (Nat.le_trans hd2 (by omega)) halJ2 (F1.tr F2) (wb_le hw2 (by omega)) (by omega) (Or.inr (fun y => by
          have : ¬ nI k < 0 := nI_pos (by omega)
          have y : nI k = -1 := y
          rw [y] at this
          exact this (by decide))) (by omega))
      · have hb := b2_n0.mp z
        rw [if_pos hb] at heq
        exact hJ28 _ (ih (k + 1) _ _ J2 h2 _ (by omega) heq hd2 (j1.tr j2) R2 hb2 hal2 halJ2 (F1.tr F2) hw2 (by omega))
  exact key (aBun A).length 0 [] A J _ _ (by omega) (by rw [List.drop_zero]; exact hRES) (Nat.le_refl _) qkJs.rf (R.other halF halJ) rfl ⟨[], qc_up_s, qkL.nil, Nat.zero_le _⟩ halJ (fun a _ hd _ => qc_up_n hd) hw (by omega)
end
