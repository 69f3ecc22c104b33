/-! SP 17: a match told -/
set_option maxRecDepth 100000
def kf_oc (M : Nat → qkRow) (o : qkOut) : Int32 := (M o.1.toNatClampNeg).2 o.2.toNatClampNeg
def qkOo (n : Nat) (o : qkOut) : Prop := (∃ a, a < n ∧ o.1 = nI a) ∧ ∃ q, q < 4 ∧ o.2 = nI q
def kf_orow (A : qkA) (M : Nat → qkRow) : Nat → Int32 := fun i => match (aOut A)[i]? with
  | some o => kf_oc M o
  | none => 0
def kf_first (A : qkA) (M : Nat → qkRow) : Int32 := kf_orow A M 0
def kf_lastv (A : qkA) (M : Nat → qkRow) : Int32 := kf_orow A M ((aOut A).length - 1)
/-- the place of a group -/
def kf_gpl (vs : List qkV) (v : Int32) : Nat := (vs.takeWhile (fun r => decide (¬ kf_rank v ≤ kf_rank (r.2 0)))).length
def kf_g0 (v : Int32) : qkV := (3, upd (upd (upd (fun _ => 0) 0 v) 1 0) 2 0)
def kf_gins (vs : List qkV) (v : Int32) : List qkV := if vs[kf_gpl vs v]?.any (fun r => decide (r.2 0 = v)) = true then vs else vs.take (kf_gpl vs v) ++ kf_g0 v :: vs.drop (kf_gpl vs v)
def kf_gadd (r : qkV) (w : Int32) : qkV := (r.1, upd (upd r.2 1 (r.2 1 + 1)) 2 (r.2 2 + if kf_num w = true then w else 0))
def kf_grp (vs : List qkV) (v w : Int32) : List qkV := match (kf_gins vs v)[kf_gpl vs v]? with
  | some r => (kf_gins vs v).set (kf_gpl vs v) (kf_gadd r w)
  | none => vs
def kf_tell (A : qkA) (M : Nat → qkRow) (vs : List qkV) : List qkV :=
  if aQ A 11 = 0 then (if vs.length < (aQ A 10).toNatClampNeg then vs ++ [((aOut A).length, kf_orow A M)] else vs) else kf_grp vs (kf_first A M) (kf_lastv A M)
/-- what stays from h0 to h1: all of B's objects but the list arl -/
def qkFb (L : Nat → Nat) (D : Nat → Prop) (B h0 h1 : qc_H) : Prop := (∀ a, qkF L a → ¬ D a → B a ≠ none → h1 a = h0 a) ∧ ∀ a, h0 a ≠ none → h1 a ≠ none
theorem qkFb.rf {L : Nat → Nat} {D : Nat → Prop} {B h : qc_H} : qkFb L D B h h := ⟨fun _ _ _ _ => rfl, fun _ h => h⟩
theorem qkFb.tr {L : Nat → Nat} {D : Nat → Prop} {B h h' h'' : qc_H} (p : qkFb L D B h h') (q : qkFb L D B h' h'') : qkFb L D B h h'' := ⟨fun a ha hd hb => (q.1 a ha hd hb).trans (p.1 a ha hd hb), fun a ha => q.2 a (p.2 a ha)⟩
theorem qkFb.up {L : Nat → Nat} {D : Nat → Prop} {B h : qc_H} {a : Nat} {e : qc_E} (ha : D a ∨ B a = none) : qkFb L D B h (qc_up h a e) := by
  refine ⟨fun b _ hd hb => qc_up_n fun z => ?_, fun b hb => ?_⟩
  · subst z
    rcases ha with q | q
    · exact hd q
    · exact hb q
  · by_cases z : b = a
    · subst z; rw [qc_up_s]; intro q; cases q
    · rw [qc_up_n z]; exact hb
theorem qkFb.le {L : Nat → Nat} {D D' : Nat → Prop} {B h h' : qc_H} (p : qkFb L D B h h') (hD : ∀ a, D a → D' a) : qkFb L D' B h h' := ⟨fun a ha hd hb => p.1 a ha (fun q => hd (hD a q)) hb, p.2⟩
section
variable {g : qh_G} {L : Nat → Nat} {J B h : qc_H} {A : qkA} {c : Nat}
theorem qkVs.at {p i : Nat} {v : qkV} {vs : List qkV} (hv : qkVs g L J B h p vs) (hi : vs[i]? = some v) : ∃ (xs : List Nat) (a : Nat), h p = some (.inr xs) ∧ xs.length ≤ 40000 ∧ xs[i]? = some a ∧ h a = some (.inl (.inl (g.2.2.2.1 0, v.1, .inl v.2))) ∧ qkF L a ∧ J a = none ∧ B a = none ∧ a ≠ p ∧ ∀ n f', qkVs g L J B (qc_up h a (.inl (.inl (g.2.2.2.1 0, n, .inl f')))) p (vs.set i (n, f')) := by
  obtain ⟨xs, x1, x2, x3, x4, x5⟩ := hv
  obtain ⟨a, a1, a2⟩ := x2.get hi
  have ham : a ∈ xs := List.mem_of_getElem? a1
  have hne : a ≠ p := by
    intro z
    rw [z, x1] at a2
    cases a2
  obtain ⟨m1, m2, m3⟩ := x5 a ham
  refine ⟨xs, a, x1, by rw [x2.1]; omega, a1, a2, m1, m2, m3, hne, fun n f' => ⟨xs, by rw [qc_up_n (Ne.symm hne)]; exact x1, ⟨by rw [List.length_set]; exact x2.1, fun k b w hk hw => ?_⟩, by rw [List.length_set]; exact x3, x4, x5⟩⟩
  have hil : i < xs.length := by
    rw [List.getElem?_eq_some_iff] at a1
    exact a1.1
  by_cases e : i = k
  · subst e
    rw [List.getElem?_set_self (by rw [← x2.1]; exact hil)] at hw
    rw [a1] at hk
    cases hk
    cases hw
    exact qc_up_s
  · rw [List.getElem?_set_ne e] at hw
    have hb : b ≠ a := by
      intro z
      rw [z, ← a1] at hk
      exact e ((List.getElem?_inj hil x4).mp hk.symm)
    show qc_up h a _ b = _
    rw [qc_up_n hb]
    exact x2.2 k b w hk hw
theorem qkVs.len {p : Nat} {vs : List qkV} (hv : qkVs g L J B h p vs) : ∃ xs : List Nat, h p = some (.inr xs) ∧ xs.length = vs.length := by
  obtain ⟨xs, x1, x2, -⟩ := hv
  exact ⟨xs, x1, x2.1⟩
/-- a fresh row put into an answer -/
theorem qkVs.ins {p w j : Nat} {i : Int32} {v : qkV} {vs : List qkV} {K : qc_H → Nat → Prop} (hv : qkVs g L J B h p vs) (hw : h w = some (.inl (.inl (g.2.2.2.1 0, v.1, .inl v.2)))) (hwF : qkF L w) (hwJ : J w = none) (hwB : B w = none) (hwx : ∀ xs, h p = some (.inr xs) → w ∉ xs) (hl : vs.length < 40) (hj : j ≤ vs.length) (hi : i = nI j) (hc : 69 ≤ c)
    (hk : ∀ xs, qkVs g L J B (qc_up h p (.inr xs)) p (vs.take j ++ v :: vs.drop j) → K (qc_up h p (.inr xs)) (c - (vs.length + vs.length / 2 + 11))) : eAI g h p i w c K := by
  obtain ⟨xs, x1, x2, x3, x4, x5⟩ := hv
  have hwn := hwx xs x1
  have hwp : w ≠ p := by
    intro z
    rw [z, x1] at hw
    cases hw
  refine ⟨xs, j, _, c - (vs.length + vs.length / 2 + 11), x1, by rw [x2.1]; omega, hi, by rw [x2.1]; exact hj, hw, rfl, by rw [x2.1]; omega, hk _ ⟨_, qc_up_s, ?_, ?_, ?_, ?_⟩⟩
  · refine (x2.ins (P := fun a (v : qkV) => h a = some (.inl (.inl (g.2.2.2.1 0, v.1, .inl v.2)))) j hw).mono fun b u hb => ?_
    rw [qc_up_n (by intro z; rw [z, x1] at hb; cases hb)]
    exact hb
  · rw [List.length_append, List.length_cons, List.length_take, List.length_drop]; omega
  · rw [List.perm_middle.nodup_iff, List.take_append_drop, List.nodup_cons]
    exact ⟨hwn, x4⟩
  · intro b hb
    rw [List.mem_append, List.mem_cons] at hb
    rcases hb with hb | rfl | hb
    · exact x5 b (List.mem_of_mem_take hb)
    · exact ⟨hwF, hwJ, hwB⟩
    · exact x5 b (List.mem_of_mem_drop hb)
theorem kt_oc {ml n j : Nat} {i : Int32} {o : qkOut} {M : Nat → qkRow} {K : Int32 → Prop} (R : qkRep g L J h A) (hM : qkMt g J h ml M n) (hn : n ≤ 3) (hi : i = nI j) (hj : (aOut A)[j]? = some o) (ho : qkOo n o) (hk : K (kf_oc M o)) :
    eR h (L 0) 0 8 (fun v1 => eGt h v1 i (fun p2 => eC h p2 12 (eI h p2 12 0 (fun v3 => eQ g.2.2.2.1 6 h ml v3 (fun v4 => eR h v4 8 1 (fun v5 => eR h (L 0) 0 8 (fun v6 => eGt h v6 i (fun p7 => eC h p7 12 (eI h p7 12 1 (fun v8 => eA g.2.2.2.1 h v5 v8 K)))))))))) := by
  obtain ⟨⟨a, ha, hoa⟩, q, hq, hoq⟩ := ho
  obtain ⟨F, hF, hM⟩ := hM
  refine ⟨_, _, R.x, rfl, rl_get R.outs hi hj fun y hy => ?_⟩
  have y1 : h y = some (.inl (.inr (12, [.int o.1, .int o.2]))) := R.jh _ _ hy
  obtain ⟨p, f1, ca, m1, m2⟩ := hM a ha
  refine ⟨⟨_, y1⟩, _, o.1, y1, rfl, 3, F, p, hF, by rw [hoa]; exact vp_in_nI (by omega) (by decide), by rw [hoa, nI_clamp (by omega)]; exact f1, _, ca, R.jh _ _ m1, rfl, _, _, R.x, rfl, rl_get R.outs hi hj fun y' hy' => ?_⟩
  have y2 : h y' = some (.inl (.inr (12, [.int o.1, .int o.2]))) := R.jh _ _ hy'
  refine ⟨⟨_, y2⟩, _, o.2, y2, rfl, 4, _, R.jh _ _ m2, by rw [hoq]; exact vp_in_nI hq (by decide), ?_⟩
  have : kf_oc M o = (M a).2 o.2.toNatClampNeg := by
    unfold kf_oc
    rw [hoa, nI_clamp (by omega)]
  rw [← this]
  exact hk
theorem kt_oc1 {ml n j : Nat} {i : Int32} {o : qkOut} {M : Nat → qkRow} {K : Int32 → Prop} (R : qkRep g L J h A) (hM : qkMt g J h ml M n) (hn : n ≤ 3) (hi : i = nI j) (hj : (aOut A)[j]? = some o) (ho : qkOo n o) (hk : K (kf_oc M o)) :
    eGt h (L 39) i (fun p2 => eC h p2 12 (eI h p2 12 0 (fun v3 => eQ g.2.2.2.1 6 h ml v3 (fun v4 => eR h v4 8 1 (fun v5 => eI h p2 12 1 (fun v8 => eA g.2.2.2.1 h v5 v8 K)))))) := by
  obtain ⟨⟨a, ha, hoa⟩, q, hq, hoq⟩ := ho
  obtain ⟨F, hF, hM⟩ := hM
  refine rl_get R.outs hi hj fun y hy => ?_
  have y1 : h y = some (.inl (.inr (12, [.int o.1, .int o.2]))) := R.jh _ _ hy
  obtain ⟨p, f1, ca, m1, m2⟩ := hM a ha
  refine ⟨⟨_, y1⟩, _, o.1, y1, rfl, 3, F, p, hF, by rw [hoa]; exact vp_in_nI (by omega) (by decide), by rw [hoa, nI_clamp (by omega)]; exact f1, _, ca, R.jh _ _ m1, rfl, _, o.2, y1, rfl, 4, _, R.jh _ _ m2, by rw [hoq]; exact vp_in_nI hq (by decide), ?_⟩
  have : kf_oc M o = (M a).2 o.2.toNatClampNeg := by
    unfold kf_oc
    rw [hoa, nI_clamp (by omega)]
  rw [← this]
  exact hk
/-- a group's row counts one more -/
theorem kt_bump {an arl atl pl : Nat} {f : Nat → Int32} {w : Int32} {r : qkV} {vs : List qkV} {K : qc_H → Prop} (R : qkRep g L J h A) (han : h an = some (qkAn arl atl f)) (hv : qkVs g L J B h arl vs) (hr : vs[pl]? = some r) (hr3 : r.1 = 3)
    (hk : ∀ h', qkRep g L J h' A → h' an = some (qkAn arl atl f) → qkVs g L J B h' arl (vs.set pl (kf_gadd r w)) → qkFb L (fun a => a = arl) B h h' → K h') :
    eR h an 5 0 (fun v61 => eGt h v61 (nI pl) (fun p62 => eCA g.2.2.2.1 h p62 (eA g.2.2.2.1 h p62 1 (fun v63 => eW g.2.2.2.1 h p62 1 (v63 + 1) (fun h64 => eR h64 an 5 0 (fun v65 => eGt h64 v65 (nI pl) (fun p66 => eCA g.2.2.2.1 h64 p66 (eA g.2.2.2.1 h64 p66 2 (fun v67 => T_X1_isNumber g w h64 (fun r68 => ∀ J71 : Int32 → Prop, (∀ (x72 : Int32), (eW g.2.2.2.1 h64 p66 2 (v67 + x72) (fun h73 => K h73)) → J71 x72) → (r68 = 0 → J71 0) ∧ (¬ r68 = 0 → J71 w))))))))))) := by
  obtain ⟨n, fr⟩ := r
  cases hr3
  obtain ⟨xs, a, x1, x2, x3, x4, x5, x6, x7, x8, x9⟩ := hv.at hr
  have han1 : an ≠ a := by
    intro z
    rw [z, x4] at han
    cases han
  have hpl : pl < vs.length := by
    rw [List.getElem?_eq_some_iff] at hr
    exact hr.1
  refine ⟨_, _, han, rfl, xs, pl, a, x1, x2, rfl, x3, ⟨_, x4⟩, 3, fr, x4, (vp_in_nI (by decide) (by decide) : vp_in (nI 1) 3), 3, fr, x4, (vp_in_nI (by decide) (by decide) : vp_in (nI 1) 3), ?_⟩
  have R1 := R.other (e := .inl (.inl (g.2.2.2.1 0, 3, .inl (upd fr 1 (fr 1 + 1))))) x5 x6
  have h1 := x9 3 (upd fr 1 (fr 1 + 1))
  have hn1 : (qc_up h a (.inl (.inl (g.2.2.2.1 0, 3, .inl (upd fr 1 (fr 1 + 1))))) : qc_H) an = some (qkAn arl atl f) := by rw [qc_up_n han1]; exact han
  obtain ⟨ys, b, y1, y2, y3, y4, y5, y6, y7, y8, y9⟩ := h1.at (i := pl) (v := (3, upd fr 1 (fr 1 + 1))) (List.getElem?_set_self hpl)
  have hbn : an ≠ b := by
    intro z
    rw [z, y4] at hn1
    cases hn1
  refine ⟨_, _, hn1, rfl, ys, pl, b, y1, y2, rfl, y3, ⟨_, y4⟩, 3, _, y4, (vp_in_nI (by decide) (by decide) : vp_in (nI 2) 3), kt_isNumber fun J71 hJ71 => ?_⟩
  have fin : J71 (if kf_num w = true then w else 0) := by
    refine hJ71 _ ⟨3, _, y4, (vp_in_nI (by decide) (by decide) : vp_in (nI 2) 3), ?_⟩
    refine hk _ (R1.other y5 y6) (by rw [qc_up_n hbn]; exact hn1) ?_ ((qkFb.up (Or.inr x7)).tr (qkFb.up (Or.inr y7)))
    have := y9 3 (upd (upd fr 1 (fr 1 + 1)) 2 (upd fr 1 (fr 1 + 1) 2 + if kf_num w = true then w else 0))
    rw [List.set_set] at this
    exact this
  refine ⟨fun z => ?_, fun z => ?_⟩
  · rw [if_neg (by rw [b2_eq0.mp z]; decide)] at fin
    exact fin
  · rw [if_pos (b2_n0.mp z)] at fin
    exact fin
end
