/-! SP 18: a match told, the walk -/
set_option maxRecDepth 100000
theorem qkMt.mono {g : qh_G} {J h h' : qc_H} {ml n : Nat} {M : Nat → qkRow} (k : qkMt g J h ml M n) (e : h' ml = h ml) : qkMt g J h' ml M n := by
  obtain ⟨F, h1, h2⟩ := k
  exact ⟨F, by rw [e]; exact h1, h2⟩
theorem kf_gins_le {vs : List qkV} {v : Int32} : vs.length ≤ (kf_gins vs v).length := by
  unfold kf_gins
  split
  · exact Nat.le_refl _
  · rw [List.length_append, List.length_cons, List.length_take, List.length_drop]
    omega
theorem kf_tell_le {A : qkA} {M : Nat → qkRow} {vs : List qkV} : vs.length ≤ (kf_tell A M vs).length := by
  unfold kf_tell
  split
  · split
    · rw [List.length_append]; exact Nat.le_add_right _ _
    · exact Nat.le_refl _
  · unfold kf_grp
    split
    · rw [List.length_set]; exact kf_gins_le
    · exact Nat.le_refl _
section
variable {g : qh_G} {L : Nat → Nat} {J B h : qc_H} {A : qkA} {c : Nat}
theorem qkVs.size {p : Nat} {vs : List qkV} {K : Int32 → Prop} (hv : qkVs g L J B h p vs) (hk : K (nI vs.length)) : eSz h p K := by
  obtain ⟨xs, x1, x2, x3, -⟩ := hv
  exact ⟨xs, x1, by rw [x2.1]; omega, by rw [x2.1]; exact hk⟩
/-- objects of before stay where a fresh one comes -/
theorem qkVs.up {p w : Nat} {e : qc_E} {vs : List qkV} (hv : qkVs g L J B h p vs) (hw : h w = none) : qkVs g L J B (qc_up h w e) p vs := by
  obtain ⟨xs, x1, x2, x3, x4, x5⟩ := hv
  refine ⟨xs, by rw [qc_up_n (by intro z; rw [z, hw] at x1; cases x1)]; exact x1, x2.mono fun a v ha => ?_, x3, x4, x5⟩
  rw [qc_up_n (by intro z; rw [z, hw] at ha; cases ha)]
  exact ha
theorem qkVs.new {p w : Nat} {vs : List qkV} (hv : qkVs g L J B h p vs) (hw : h w = none) : ∀ xs, h p = some (.inr xs) → w ∉ xs := by
  obtain ⟨xs, x1, x2, x3, x4, x5⟩ := hv
  intro ys hy hm
  rw [x1] at hy
  cases hy
  obtain ⟨i, hi⟩ := List.getElem?_of_mem hm
  have hil : i < vs.length := by
    rw [← x2.1]
    rw [List.getElem?_eq_some_iff] at hi
    exact hi.1
  have := x2.2 i w _ hi (List.getElem?_eq_getElem hil)
  have this : h w = _ := this
  rw [hw] at this
  cases this
theorem kt_gnew {an arl atl p : Nat} {f : Nat → Int32} {v : Int32} {vs : List qkV} {K : qc_H → Nat → Prop} (R : qkRep g L J h A) (han : h an = some (qkAn arl atl f)) (hv : qkVs g L J B h arl vs) (harF : qkF L arl) (harJ : J arl = none) (hB : ∀ a, h a = none → B a = none) (hl : vs.length < 40) (hp : p ≤ vs.length) (hc : 73 ≤ c)
    (hk : ∀ h' c', qkRep g L J h' A → h' an = some (qkAn arl atl f) → qkVs g L J B h' arl (vs.take p ++ kf_g0 v :: vs.drop p) → qkFb L (fun a => a = arl) B h h' → K h' c') :
    eR h an 5 0 (fun v36 => eNI g.2.2.2.1 h 3 c (fun w37 h38 c39 => eW g.2.2.2.1 h38 w37 0 v (fun h40 => eW g.2.2.2.1 h40 w37 1 0 (fun h41 => eW g.2.2.2.1 h41 w37 2 0 (fun h42 => eAI g h42 v36 (nI p) w37 c39 (fun h43 c44 => K h43 c44)))))) := by
  refine ⟨_, _, han, rfl, by decide, by decide, c - 4, by show c = c - 4 + 4; omega, fun w hw => ?_⟩
  have hwF := R.fresh hw
  have hwJ := R.Jn hw
  have hwB := hB w hw
  have e3 : Int32.toNatClampNeg 3 = 3 := by decide
  have e0 : Int32.toNatClampNeg 0 = 0 := by decide
  have e1 : Int32.toNatClampNeg 1 = 1 := by decide
  have e2 : Int32.toNatClampNeg 2 = 2 := by decide
  rw [e3]
  refine ⟨3, _, qc_up_s, (vp_in_nI (by decide) (by decide) : vp_in (nI 0) 3), ?_⟩
  rw [e0, qc_up_up]
  refine ⟨3, _, qc_up_s, (vp_in_nI (by decide) (by decide) : vp_in (nI 1) 3), ?_⟩
  rw [e1, qc_up_up]
  refine ⟨3, _, qc_up_s, (vp_in_nI (by decide) (by decide) : vp_in (nI 2) 3), ?_⟩
  rw [e2, qc_up_up]
  have hna : an ≠ w := by intro z; rw [z, hw] at han; cases han
  have hnr : arl ≠ an := by
    intro z
    obtain ⟨xs, x1, -⟩ := hv
    rw [z, han] at x1
    cases x1
  refine (hv.up hw).ins (v := kf_g0 v) qc_up_s hwF hwJ hwB (fun xs hx => ?_) hl hp rfl (by omega) fun xs hxs => ?_
  · refine hv.new hw xs ?_
    rw [qc_up_n (by intro z; rw [z, qc_up_s] at hx; cases hx)] at hx
    exact hx
  · refine hk _ _ ((R.other hwF hwJ).other harF harJ) ?_ hxs ((qkFb.up (Or.inr hwB)).tr (qkFb.up (Or.inl rfl)))
    rw [qc_up_n (Ne.symm hnr), qc_up_n hna]
    exact han
theorem kt_tell {an arl atl ml n lim : Nat} {f : Nat → Int32} {M : Nat → qkRow} {vs : List qkV} {K : qc_H → Prop} (R : qkRep g L J h A) (han : h an = some (qkAn arl atl f)) (hv : qkVs g L J B h arl vs) (harF : qkF L arl) (harJ : J arl = none) (hB : ∀ a, h a = none → B a = none) (hM : qkMt g J h ml M n) (hn : n ≤ 3)
    (ho : ∀ o ∈ aOut A, qkOo n o) (ho1 : 1 ≤ (aOut A).length) (ho3 : (aOut A).length ≤ 3) (hq : aQ A 11 = 0 ∨ ∀ v ∈ vs, v.1 = 3) (hlim : aQ A 10 = nI lim) (hl : lim ≤ 40) (hlen : (kf_tell A M vs).length ≤ 40) (hc : 75 * (kf_tell A M vs).length ≤ c + 75 * vs.length)
    (hk : ∀ h', qkRep g L J h' A → h' an = some (qkAn arl atl f) → qkVs g L J B h' arl (kf_tell A M vs) → qkFb L (fun a => a = arl) B h h' → K h') : T_X1_tell g (L 0) ml an h c K := by
  unfold T_X1_tell
  have hvl := kf_tell_le (A := A) (M := M) (vs := vs)
  have cell : ∀ j (hj : j < (aOut A).length), (aOut A)[j]? = some (aOut A)[j] ∧ qkOo n (aOut A)[j] ∧ kf_oc M (aOut A)[j] = kf_orow A M j := fun j hj => ⟨List.getElem?_eq_getElem hj, ho _ (List.getElem_mem hj), by unfold kf_orow; rw [List.getElem?_eq_getElem hj]⟩
  have hna : an ≠ arl := by
    intro z
    obtain ⟨xs, x1, -⟩ := hv
    rw [← z, han] at x1
    cases x1
  refine kt_oc R hM hn (j := 0) rfl (cell 0 ho1).1 (cell 0 ho1).2.1 ⟨_, aQ A 11, R.x, rfl, fun z => ?_, fun z => ?_⟩
  · -- groups
    refine ⟨_, _, R.x, rfl, _, _, R.x, rfl, rl_size R.outs ?_⟩
    have hlast : (aOut A).length - 1 < (aOut A).length := by omega
    have hi : nI (aOut A).length - 1 = nI ((aOut A).length - 1) := by
      have : nI (aOut A).length = nI (((aOut A).length - 1) + 1) := by rw [Nat.sub_add_cancel ho1]
      rw [this, nI_pred]
    refine kt_oc1 R hM hn hi (cell _ hlast).1 (cell _ hlast).2.1 ?_
    rw [(cell _ hlast).2.2, (cell 0 ho1).2.2]
    have h3 : ∀ v ∈ vs, v.1 = 3 := by
      rcases hq with q | q
      · exact absurd q z
      · exact q
    have hte : kf_tell A M vs = kf_grp vs (kf_first A M) (kf_lastv A M) := by
      unfold kf_tell
      rw [if_neg z]
    show ∀ X21 : Int32 → Prop, _ → X21 0
    rw [show kf_orow A M 0 = kf_first A M from rfl, show kf_orow A M ((aOut A).length - 1) = kf_lastv A M from rfl]
    generalize kf_first A M = v at hte
    generalize kf_lastv A M = w at hte
    intro X hX
    have hstep : ∀ p, p ≤ vs.length → (∀ j r, j < p → vs[j]? = some r → decide (¬ kf_rank v ≤ kf_rank (r.2 0)) = true) → (∀ r, vs[p]? = some r → decide (¬ kf_rank v ≤ kf_rank (r.2 0)) = true → X (nI p + 1)) → X (nI p) := by
      intro p hp hb hnext
      refine hX _ ⟨_, _, han, rfl, hv.size fun J32 hJ32 => ?_⟩
      have done : (∀ r, vs[p]? = some r → decide (¬ kf_rank v ≤ kf_rank (r.2 0)) = false) → J32 := by
        intro hs
        have hpl : kf_gpl vs v = p := by
          have := (tw_take (fun r : qkV => decide (¬ kf_rank v ≤ kf_rank (r.2 0))) vs p hp hb hs).1
          unfold kf_gpl
          rw [this, List.length_take]
          omega
        refine hJ32 ⟨_, _, han, rfl, hv.size fun J58 hJ58 => ?_⟩
        have fin : ∀ h1 c1 r, qkRep g L J h1 A → h1 an = some (qkAn arl atl f) → qkVs g L J B h1 arl (kf_gins vs v) → (kf_gins vs v)[p]? = some r → r.1 = 3 → qkFb L (fun a => a = arl) B h h1 → J58 h1 c1 := by
          intro h1 c1 r R1 ha1 hv1 hr hr3 F1
          refine hJ58 h1 c1 (kt_bump (w := w) R1 ha1 hv1 hr hr3 fun h2 R2 ha2 hv2 F2 => ?_)
          refine hk h2 R2 ha2 ?_ (F1.tr F2)
          rw [hte]
          unfold kf_grp
          rw [hpl, hr]
          exact hv2
        have new : kf_gins vs v = vs.take p ++ kf_g0 v :: vs.drop p → eR h an 5 0 (fun v36 => eNI g.2.2.2.1 h 3 c (fun w37 h38 c39 => eW g.2.2.2.1 h38 w37 0 v (fun h40 => eW g.2.2.2.1 h40 w37 1 0 (fun h41 => eW g.2.2.2.1 h41 w37 2 0 (fun h42 => eAI g h42 v36 (nI p) w37 c39 (fun h43 c44 => J58 h43 c44)))))) := by
          intro e
          have hgp : (kf_gins vs v)[p]? = some (kf_g0 v) := by
            rw [e, List.getElem?_append_right (by rw [List.length_take]; omega), List.length_take, Nat.min_eq_left hp, Nat.sub_self]
            rfl
          have hgl : (kf_gins vs v).length = vs.length + 1 := by
            rw [e, List.length_append, List.length_cons, List.length_take, List.length_drop]
            omega
          have htl : (kf_tell A M vs).length = vs.length + 1 := by rw [hte]; unfold kf_grp; rw [hpl, hgp]; show (List.set _ _ _).length = _; rw [List.length_set, hgl]
          exact kt_gnew R han hv harF harJ hB (by omega) hp (by omega) fun h1 c1 R1 ha1 hv1 F1 => fin h1 c1 _ R1 ha1 (by rw [e]; exact hv1) hgp rfl F1
        refine ⟨fun z1 => new ?_, fun z1 => ?_⟩
        · have : p = vs.length := (nI_eq (by omega) (by omega)).mp z1
          unfold kf_gins
          rw [if_neg (by rw [hpl, List.getElem?_eq_none (by omega)]; simp), hpl]
        · have hne : p ≠ vs.length := fun e => z1 (by rw [e])
          have hpk : p < vs.length := by omega
          obtain ⟨xs, a, x1, x2, x3, x4, x5⟩ := hv.at (List.getElem?_eq_getElem hpk)
          have h33 := h3 _ (List.getElem_mem hpk)
          refine ⟨_, _, han, rfl, xs, p, a, x1, x2, rfl, x3, ⟨_, x4⟩, _, _, x4, by rw [h33]; exact (vp_in_nI (by decide) (by decide) : vp_in (nI 0) 3), fun z2 => ?_, fun z2 => new ?_⟩
          · have e : kf_gins vs v = vs := by
              unfold kf_gins
              rw [if_pos]
              rw [hpl, List.getElem?_eq_getElem hpk]
              exact decide_eq_true z2
            exact fin h c _ R han (by rw [e]; exact hv) (by rw [e]; exact List.getElem?_eq_getElem hpk) h33 qkFb.rf
          · unfold kf_gins
            rw [if_neg, hpl]
            rw [hpl, List.getElem?_eq_getElem hpk]
            intro q
            exact z2 (of_decide_eq_true q)
      refine ⟨fun z1 => done fun r hr => ?_, fun z1 => ?_⟩
      · have : ¬ p < vs.length := fun q => absurd z1 (nI_ge q (by omega))
        rw [List.getElem?_eq_none (by omega)] at hr
        cases hr
      · have hpk : p < vs.length := by
          apply Decidable.byContradiction
          intro q
          exact z1 (nI_le (by omega) (by omega))
        obtain ⟨xs, a, x1, x2, x3, x4, x5⟩ := hv.at (List.getElem?_eq_getElem hpk)
        have h33 := h3 _ (List.getElem_mem hpk)
        refine ⟨_, _, han, rfl, xs, p, a, x1, x2, rfl, x3, ⟨_, x4⟩, _, _, x4, by rw [h33]; exact (vp_in_nI (by decide) (by decide) : vp_in (nI 0) 3), kt_rank (kt_rank ⟨fun z2 => done fun r hr => ?_, fun z2 => ?_⟩)⟩
        · rw [List.getElem?_eq_getElem hpk] at hr
          cases hr
          exact decide_eq_false (fun q => q z2)
        · exact hnext _ (List.getElem?_eq_getElem hpk) (decide_eq_true z2)
    have key : ∀ m p, p + m = vs.length → (∀ j r, j < p → vs[j]? = some r → decide (¬ kf_rank v ≤ kf_rank (r.2 0)) = true) → X (nI p) := by
      intro m
      induction m with
      | zero =>
        intro p hpm hb
        refine hstep p (by omega) hb fun r hr => ?_
        rw [List.getElem?_eq_none (by omega)] at hr
        cases hr
      | succ m ih =>
        intro p hpm hb
        refine hstep p (by omega) hb fun r hr hd => ?_
        rw [nI_1]
        refine ih (p + 1) (by omega) fun j u hj hu => ?_
        by_cases e : j = p
        · subst e
          rw [hr] at hu
          cases hu
          exact hd
        · exact hb j u (by omega) hu
    exact key vs.length 0 (by omega) fun j r hj => absurd hj (Nat.not_lt_zero j)
  · -- rows
    have hte : kf_tell A M vs = if vs.length < lim then vs ++ [((aOut A).length, kf_orow A M)] else vs := by
      unfold kf_tell
      rw [if_pos z, hlim, nI_clamp (by omega)]
    refine ⟨_, _, han, rfl, hv.size ⟨_, nI lim, R.x, by rw [← hlim]; rfl, fun z1 => ?_, fun z1 => ?_⟩⟩
    · have : ¬ vs.length < lim := fun q => absurd z1 (nI_ge q (by omega))
      rw [if_neg this] at hte
      rw [hte] at hk
      exact hk h R han hv qkFb.rf
    · have hlt : vs.length < lim := by
        apply Decidable.byContradiction
        intro q
        exact z1 (nI_le (by omega) (by omega))
      rw [if_pos hlt] at hte
      have htl : (kf_tell A M vs).length = vs.length + 1 := by rw [hte, List.length_append]; rfl
      refine ⟨_, _, R.x, rfl, rl_size R.outs ⟨nI_pos (by omega), by rw [nI_clamp (by omega)]; omega, c - ((aOut A).length + 1), by rw [nI_clamp (by omega)]; omega, fun w hw => ?_⟩⟩
      rw [nI_clamp (by omega)]
      have hwF := R.fresh hw
      have hwJ := R.Jn hw
      have hwB := hB w hw
      have hnw : an ≠ w := by intro z; rw [z, hw] at han; cases han
      have hmw : ml ≠ w := by
        obtain ⟨F, hF, -⟩ := hM
        intro z
        rw [z, hw] at hF
        cases hF
      intro X hX
      have key : ∀ m k, k + m = (aOut A).length → X (nI k) (qc_up h w (.inl (.inl (g.2.2.2.1 0, (aOut A).length, .inl (fun i => if i < k then kf_orow A M i else 0))))) := by
        intro m
        induction m with
        | zero =>
          intro k hkm
          refine hX _ _ ⟨_, qc_up_s, fun _ => ?_, fun z2 => absurd (nI_le (show (aOut A).length ≤ k by omega) (by omega)) z2⟩
          have hfe : (fun i => if i < k then kf_orow A M i else 0) = kf_orow A M := by
            funext i
            by_cases q : i < k
            · exact if_pos q
            · rw [if_neg q]
              unfold kf_orow
              rw [List.getElem?_eq_none (by omega)]
          rw [hfe]
          refine ⟨_, _, by rw [qc_up_n hnw]; exact han, rfl, ?_⟩
          obtain ⟨xs, x1, x2, x3, x4, x5⟩ := hv.up (w := w) (e := .inl (.inl (g.2.2.2.1 0, (aOut A).length, .inl (kf_orow A M)))) hw
          have hwn : w ∉ xs := by
            refine hv.new hw xs ?_
            rw [qc_up_n (by intro z; rw [z, qc_up_s] at x1; cases x1)] at x1
            exact x1
          have hwr : w ≠ arl := by
            intro z
            rw [← z, qc_up_s] at x1
            cases x1
          refine ⟨xs, _, c - ((aOut A).length + 1) - (vs.length + vs.length / 2 + 11), x1, by rw [x2.1]; omega, qc_up_s, rfl, by rw [x2.1]; omega, ?_⟩
          refine hk _ ((R.other hwF hwJ).other harF harJ) (by rw [qc_up_n hna, qc_up_n hnw]; exact han) ?_ ((qkFb.up (Or.inr hwB)).tr (qkFb.up (Or.inl rfl)))
          rw [hte]
          refine ⟨_, qc_up_s, ?_, by rw [List.length_append]; show vs.length + 1 ≤ _; omega, ?_, fun b hb => ?_⟩
          · refine (x2.app (P := fun a (v : qkV) => qc_up h w (.inl (.inl (g.2.2.2.1 0, (aOut A).length, .inl (kf_orow A M)))) a = some (.inl (.inl (g.2.2.2.1 0, v.1, .inl v.2)))) (qkL.one (v := ((aOut A).length, kf_orow A M)) qc_up_s)).mono fun b u hb => ?_
            rw [qc_up_n (by intro z; rw [z, x1] at hb; cases hb)]
            exact hb
          · rw [List.nodup_append]
            refine ⟨x4, List.nodup_cons.mpr ⟨List.not_mem_nil, List.nodup_nil⟩, fun b hb u hu q => ?_⟩
            rw [List.mem_singleton] at hu
            rw [q, hu] at hb
            exact hwn hb
          · rw [List.mem_append, List.mem_singleton] at hb
            rcases hb with hb | rfl
            · exact x5 b hb
            · exact ⟨hwF, hwJ, hwB⟩
        | succ m ih =>
          intro k hkm
          have hkl : k < (aOut A).length := by omega
          refine hX _ _ ⟨_, qc_up_s, fun z2 => absurd z2 (nI_ge hkl (by omega)), fun _ => ?_⟩
          refine kt_oc (R.other hwF hwJ) (hM.mono (qc_up_n hmw)) hn (j := k) rfl (cell k hkl).1 (cell k hkl).2.1 ?_
          rw [(cell k hkl).2.2]
          refine ⟨_, _, qc_up_s, vp_in_nI hkl (by omega), ?_⟩
          rw [qc_up_up, nI_1, nI_clamp (by omega)]
          have hfe : upd (fun i => if i < k then kf_orow A M i else 0) k (kf_orow A M k) = (fun i => if i < k + 1 then kf_orow A M i else 0) := by
            funext i
            by_cases q : i = k
            · subst q
              rw [upd_s, if_pos (by omega)]
            · rw [upd_n q]
              by_cases q2 : i < k
              · rw [if_pos q2, if_pos (by omega)]
              · rw [if_neg q2, if_neg (by omega)]
          rw [hfe]
          exact ih (k + 1) (by omega)
      have h0 := key (aOut A).length 0 (by omega)
      have hfe : (fun i => if i < 0 then kf_orow A M i else (0 : Int32)) = fun _ => 0 := by
        funext i
        exact if_neg (Nat.not_lt_zero i)
      rw [hfe] at h0
      exact h0
end
