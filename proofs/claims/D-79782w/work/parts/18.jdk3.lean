/-! JDK 3: ArrayList.add, over level 0 -/
set_option maxRecDepth 100000
/-- an array of references, as an object of level 0 -/
abbrev qj_a (g : qh_G) (cap : Nat) (f : Nat → Option Nat) : va_E := .inl (g.2.2.2.1 3, cap, .inr (.inr (.inr (.inr f))))
abbrev qj_o (m : Int32) (ea : Nat) (n : Int32) : va_E := .inr (16, [.int m, .ref ea, .int n])
theorem qh_V.arr {g : qh_G} {τ : qh_H} {a : Nat} {y : vp_A} {ty : FieldType} {nm : String} (t0 : Nat) (ht : ∀ cA : Nat → ClassId, (qh_tys cA)[t0]? = some (cA t0, ty)) (hnm : ("[" ++ ty.toString) = nm) (ha : τ a = some (.inl (g.2.2.2.1 t0, y))) : qh_V g τ nm a := by
  intro s H ws locs hK hX hT hP hS
  obtain ⟨k0, hk0⟩ := hT a _ ha
  have hcell : H[a]? = some (vp_cell (g.2.2.2.1 t0) y) := hP k0 _ hk0
  have h2' := (hK.2 t0 _ (ht _)).2
  have hf : s.vm.findClass nm = some (g.2.2.2.1 t0) := by
    rw [← hnm]
    cases ty with
    | object E =>
      obtain ⟨_, _, -, -, -, e1⟩ := h2'
      exact e1
    | _ => exact h2'
  have hcl : (vp_cell (g.2.2.2.1 t0) y).cls = g.2.2.2.1 t0 := by
    obtain ⟨n, f | f | f | f | f⟩ := y <;> rfl
  have hvm : (vp_cell (g.2.2.2.1 t0) y).vm = .none := by
    obtain ⟨n, f | f | f | f | f⟩ := y <;> rfl
  exact ⟨_, hcell, by rw [hvm]; rfl, by rw [hcl]; exact hf⟩
section
variable {g : qh_G} {x : qc_X} {d : Nat} {τ : qh_H} {Q : qh_R → qh_H → Prop}
theorem j0_copy3 {ea cap N : Nat} {f : Nat → Option Nat} (hO : qc_O g x) (he : τ ea = some (qj_a g cap f)) (hel : ∀ i, i < cap → ∀ y, f i = some y → qj_E g x τ y) (h1 : cap ≤ N) (h2 : N ≤ 65536) (hq : ∀ a, τ a = none → g.2.2.1 a → Q (.inl (some (.ref a))) (qh_upd τ a (qj_a g N (va_cpy f (fun _ => none) 0 0 cap)))) : qh_S g d (N + 1) I_J18_copyOf_3 [.ref ea, .int (nI N), .ref x.2.2.1] τ Q := by
  have hN : (nI N).toNatClampNeg = N := nI_clamp (by omega)
  have hc : (nI cap).toNatClampNeg = cap := nI_clamp (by omega)
  refine qh_S.of (by decide) rfl (ls := [some (.ref ea), some (.int (nI N)), some (.ref x.2.2.1), none]) rfl (Nat.le_of_ble_eq_true rfl) (qm_ct rfl) ?_
  refine qh_aload_n E_J18_copyOf_3 (by rfl) dJ18_copyOf_3_0 ?_
  refine qh_ldcM E_J18_copyOf_3 rfl q952 hO.2.2.2.2.2.2.2.2.1 dJ18_copyOf_3_1 ?_
  refine qh_acmp_ne (rx := some x.2.2.1) (ry := some x.2.2.1) E_J18_copyOf_3 13 dJ18_copyOf_3_3 (by decide) (fun q => absurd rfl q) (fun _ => ?_)
  refine qh_iload_n E_J18_copyOf_3 (by rfl) dJ18_copyOf_3_6 ?_
  refine qh_wp.cost (c' := 0 + (N + 1)) (by omega) ?_
  refine qh_newQ 3 (fun _ => rfl) E_J18_copyOf_3 rfl q954 (hO.2.1 _ (qj_N q953 rfl)) (nI_pos (by omega)) hN (by omega) dJ18_copyOf_3_7 (fun a ha hA => ?_)
  have ne : ea ≠ a := fun z => by rw [z, ha] at he; cases he
  have he1 : qh_upd τ a (qj_a g N (fun _ => none)) ea = some (qj_a g cap f) := by rw [qh_upd_n ne]; exact he
  refine qh_goto E_J18_copyOf_3 24 dJ18_copyOf_3_10 (by decide) ?_
  refine qh_astore_n E_J18_copyOf_3 (by decide) dJ18_copyOf_3_24 ?_
  refine qh_aload_n E_J18_copyOf_3 (by rfl) dJ18_copyOf_3_25 ?_
  refine qh_iconst E_J18_copyOf_3 0 (by decide) dJ18_copyOf_3_26 ?_
  refine qh_aload_n E_J18_copyOf_3 (by rfl) dJ18_copyOf_3_27 ?_
  refine qh_iconst E_J18_copyOf_3 0 (by decide) dJ18_copyOf_3_28 ?_
  refine qh_aload_n E_J18_copyOf_3 (by rfl) dJ18_copyOf_3_29 ?_
  refine qh_alen (t := 0) E_J18_copyOf_3 3 (fun _ => rfl) he1 dJ18_copyOf_3_30 ?_
  refine qh_iload_n E_J18_copyOf_3 (by rfl) dJ18_copyOf_3_31 ?_
  refine qh_mmin E_J18_copyOf_3 rfl q739 q627 q106 qj_mn (Nat.le_of_ble_eq_true rfl) dJ18_copyOf_3_32 ?_
  have e1 : (if nI N < Int32.ofNat cap then nI N else Int32.ofNat cap) = nI cap := if_neg (nI_nlt h1 (by omega))
  rw [e1]
  refine qh_copyO E_J18_copyOf_3 rfl q740 q742 q741 q113 he1 qh_upd_s (by decide) (by decide) (nI_pos (by omega)) (by rw [hc, sb_cl0]; omega) (by rw [hc, sb_cl0]; omega) (fun i hi y hy => ?_) (Nat.le_of_ble_eq_true rfl) dJ18_copyOf_3_35 ?_
  · rw [hc] at hi
    rw [sb_cl0, Nat.zero_add] at hy
    exact ((hel i hi y hy).new ha).A hO
  rw [qh_uu, sb_cl0, hc]
  refine qh_aload_n E_J18_copyOf_3 (by rfl) dJ18_copyOf_3_38 ?_
  exact qh_aret E_J18_copyOf_3 rfl (Or.inr ⟨_, rfl⟩) (Or.inr ⟨_, rfl⟩) dJ18_copyOf_3_39 (hq a ha hA)
theorem j0_copy2 {ea cap N : Nat} {f : Nat → Option Nat} (hO : qc_O g x) (he : τ ea = some (qj_a g cap f)) (hel : ∀ i, i < cap → ∀ y, f i = some y → qj_E g x τ y) (h1 : cap ≤ N) (h2 : N ≤ 65536) (hq : ∀ a, τ a = none → g.2.2.1 a → Q (.inl (some (.ref a))) (qh_upd τ a (qj_a g N (va_cpy f (fun _ => none) 0 0 cap)))) : qh_S g (d + 1) (N + 1) I_J18_copyOf_2 [.ref ea, .int (nI N)] τ Q := by
  refine qh_S.of (by decide) rfl (ls := [some (.ref ea), some (.int (nI N))]) rfl (Nat.le_of_ble_eq_true rfl) (qm_ct rfl) ?_
  refine qh_aload_n E_J18_copyOf_2 (by rfl) dJ18_copyOf_2_0 ?_
  refine qh_iload_n E_J18_copyOf_2 (by rfl) dJ18_copyOf_2_1 ?_
  refine qh_aload_n E_J18_copyOf_2 (by rfl) dJ18_copyOf_2_2 ?_
  refine qh_getC E_J18_copyOf_2 rfl q919 (hO.2.1 _ (qj_N q2363 rfl)) q2362 q920 q948 hO.2.2.2.2.2.2.2.2.1 (qh_V.arr 3 (fun _ => rfl) (by decide +kernel) he) (Nat.le_of_ble_eq_true rfl) dJ18_copyOf_2_3 ?_
  refine qh_wp.cost (c' := 0 + (N + 1)) (by omega) ?_
  refine qh_callS (c := 0) (k := (N+1)) (As := [.ref ea, .int (nI N), .ref x.2.2.1]) (rest := []) E_J18_copyOf_2 rfl M_J18_copyOf_3 rfl q949 q950 rfl rfl (Nat.le_of_ble_eq_true rfl) dJ18_copyOf_2_6 ?_
  refine j0_copy3 hO he hel h1 h2 (fun a ha hA => ?_)
  exact qh_aret E_J18_copyOf_2 rfl (Or.inr ⟨_, rfl⟩) (Or.inr ⟨_, rfl⟩) dJ18_copyOf_2_9 (hq a ha hA)
/-- the first array, of ten places -/
theorem j0_grow2E {p : Nat} {m : Int32} (hO : qc_O g x) (hp : τ p = some (qj_o m x.1 (nI 0))) (hq : ∀ a, τ a = none → g.2.2.1 a → Q (.inl (some (.ref a))) (qh_upd (qh_upd τ a (qj_a g 10 (fun _ => none))) p (qj_o m a (nI 0)))) : qh_S g (d + 2) 11 I_J2_grow_2 [.ref p, .int (nI 1)] τ Q := by
  refine qh_S.of (by decide) rfl (ls := [some (.ref p), some (.int (nI 1)), none, none]) rfl (Nat.le_of_ble_eq_true rfl) (qm_ct rfl) ?_
  refine qh_aload_n E_J2_grow_2 (by rfl) dJ2_grow_2_0 ?_
  refine qh_getf E_J2_grow_2 rfl qj_ck 1 (by decide) q218 hp rfl dJ2_grow_2_1 ?_
  refine qh_tlen E_J2_grow_2 hO.2.2.2.1 dJ2_grow_2_4 ?_
  refine qh_istore_n E_J2_grow_2 (by decide) dJ2_grow_2_5 ?_
  refine qh_iload_n E_J2_grow_2 (by rfl) dJ2_grow_2_6 ?_
  refine qh_if_gt E_J2_grow_2 20 dJ2_grow_2_7 (by decide) (fun q => absurd q (by decide)) (fun _ => ?_)
  refine qh_aload_n E_J2_grow_2 (by rfl) dJ2_grow_2_10 ?_
  refine qh_getf E_J2_grow_2 rfl qj_ck 1 (by decide) q218 hp rfl dJ2_grow_2_11 ?_
  refine qh_gets E_J2_grow_2 rfl hO.2.2.1 q216 dJ2_grow_2_14 ?_
  refine qh_acmp_eq (rx := some x.1) (ry := some x.1) E_J2_grow_2 45 dJ2_grow_2_17 (by decide) (fun _ => ?_) (fun q => absurd rfl q)
  refine qh_aload_n E_J2_grow_2 (by rfl) dJ2_grow_2_45 ?_
  refine qh_bipush E_J2_grow_2 10 (by decide) dJ2_grow_2_46 ?_
  refine qh_iload_n E_J2_grow_2 (by rfl) dJ2_grow_2_48 ?_
  refine qh_mmax E_J2_grow_2 rfl q955 q630 q106 qj_mx (Nat.le_of_ble_eq_true rfl) dJ2_grow_2_49 ?_
  refine qh_wp.cost (c' := 0 + (10 + 1)) (by omega) ?_
  refine qh_newQ 3 (fun _ => rfl) E_J2_grow_2 rfl q956 (hO.2.1 _ (qj_N q953 rfl)) (by decide) (by decide) (by decide) dJ2_grow_2_52 (fun a ha hA => ?_)
  have ne : p ≠ a := fun z => by rw [z, ha] at hp; cases hp
  refine qh_dup_x1 E_J2_grow_2 rfl rfl dJ2_grow_2_55 ?_
  refine qh_putf E_J2_grow_2 rfl qj_ck 1 (by decide) q218 rfl rfl rfl (by rw [qh_upd_n ne]; exact hp) (Nat.le_of_ble_eq_true rfl) dJ2_grow_2_56 ?_
  exact qh_aret E_J2_grow_2 rfl (Or.inr ⟨_, rfl⟩) (Or.inr ⟨_, rfl⟩) dJ2_grow_2_59 (hq a ha hA)
theorem qj_half {n : Nat} (h : n < 2 ^ 31) : nI n >>> ((1 : Int32) &&& 31) = nI (n / 2) := by
  rw [pk_shrN h _ 1 (by decide)]
/-- a full array grows by half -/
theorem j0_grow2F {p ea n : Nat} {m : Int32} {f : Nat → Option Nat} (hO : qc_O g x) (hp : τ p = some (qj_o m ea (nI n))) (he : τ ea = some (qj_a g n f)) (hel : ∀ i, i < n → ∀ y, f i = some y → qj_E g x τ y) (h1 : 10 ≤ n) (h2 : n ≤ 40000) (hq : ∀ a, τ a = none → g.2.2.1 a → Q (.inl (some (.ref a))) (qh_upd (qh_upd τ a (qj_a g (n + n / 2) (va_cpy f (fun _ => none) 0 0 n))) p (qj_o m a (nI n)))) : qh_S g (d + 2) (n + n / 2 + 1) I_J2_grow_2 [.ref p, .int (nI (n + 1))] τ Q := by
  refine qh_S.of (by decide) rfl (ls := [some (.ref p), some (.int (nI (n + 1))), none, none]) rfl (Nat.le_of_ble_eq_true rfl) (qm_ct rfl) ?_
  refine qh_aload_n E_J2_grow_2 (by rfl) dJ2_grow_2_0 ?_
  refine qh_getf E_J2_grow_2 rfl qj_ck 1 (by decide) q218 hp rfl dJ2_grow_2_1 ?_
  refine qh_alen (t := 0) E_J2_grow_2 3 (fun _ => rfl) he dJ2_grow_2_4 ?_
  refine qh_istore_n E_J2_grow_2 (by decide) dJ2_grow_2_5 ?_
  refine qh_iload_n E_J2_grow_2 (by rfl) dJ2_grow_2_6 ?_
  refine qh_if_gt E_J2_grow_2 20 dJ2_grow_2_7 (by decide) (fun _ => ?_) (fun q => absurd (nI_lt (a := 0) (b := n) (by omega) (by omega)) q)
  refine qh_iload_n E_J2_grow_2 (by rfl) dJ2_grow_2_20 ?_
  refine qh_iload_n E_J2_grow_2 (by rfl) dJ2_grow_2_21 ?_
  refine qh_iload_n E_J2_grow_2 (by rfl) dJ2_grow_2_22 ?_
  refine qh_isub E_J2_grow_2 dJ2_grow_2_23 ?_
  refine qh_iload_n E_J2_grow_2 (by rfl) dJ2_grow_2_24 ?_
  refine qh_iconst E_J2_grow_2 1 (by decide) dJ2_grow_2_25 ?_
  refine qh_ishr E_J2_grow_2 dJ2_grow_2_26 ?_
  have e1 : nI (n + 1) - Int32.ofNat n = nI 1 := by
    show nI (n + 1) - nI n = nI 1
    rw [pk_sub (by omega)]
    congr 1
    omega
  have e2 : Int32.ofNat n >>> ((1 : Int32) &&& 31) = nI (n / 2) := qj_half (by omega)
  have e3 : (if nI 1 < nI (n / 2) then nI (n / 2) else nI 1) = nI (n / 2) := if_pos (nI_lt (by omega) (by omega))
  have e4 : Int32.ofNat n + (if nI 1 < nI (n / 2) then nI (n / 2) else nI 1) = nI (n + n / 2) := by
    rw [e3]
    exact nI_add n (n / 2)
  rw [e1, e2]
  refine qh_callS (c := (n+n/2+1)) (k := 0) (As := [.int (Int32.ofNat n), .int (nI 1), .int (nI (n / 2))]) (rest := []) E_J2_grow_2 rfl M_J17_newLength rfl q915 q721 rfl rfl (Nat.le_of_ble_eq_true rfl) dJ2_grow_2_27 ?_
  refine j0_newLength ?_ ?_ ?_
  · rw [e4]
    exact nI_lt (a := 0) (by omega) (by omega)
  · rw [e4]
    exact nI_le (b := 100000) (by omega) (by decide)
  rw [e4]
  refine qh_istore_n E_J2_grow_2 (by decide) dJ2_grow_2_30 ?_
  refine qh_aload_n E_J2_grow_2 (by rfl) dJ2_grow_2_31 ?_
  refine qh_aload_n E_J2_grow_2 (by rfl) dJ2_grow_2_32 ?_
  refine qh_getf E_J2_grow_2 rfl qj_ck 1 (by decide) q218 hp rfl dJ2_grow_2_33 ?_
  refine qh_iload_n E_J2_grow_2 (by rfl) dJ2_grow_2_36 ?_
  refine qh_wp.cost (c' := 0 + (n + n / 2 + 1)) (by omega) ?_
  refine qh_callS (c := 0) (k := (n+n/2+1)) (As := [.ref ea, .int (nI (n + n / 2))]) (rest := [.ref p]) E_J2_grow_2 rfl M_J18_copyOf_2 rfl q916 q917 rfl rfl (Nat.le_of_ble_eq_true rfl) dJ2_grow_2_37 ?_
  refine j0_copy2 hO he hel (by omega) (by omega) (fun a ha hA => ?_)
  have ne : p ≠ a := fun z => by rw [z, ha] at hp; cases hp
  refine qh_dup_x1 E_J2_grow_2 rfl rfl dJ2_grow_2_40 ?_
  refine qh_putf E_J2_grow_2 rfl qj_ck 1 (by decide) q218 rfl rfl rfl (by rw [qh_upd_n ne]; exact hp) (Nat.le_of_ble_eq_true rfl) dJ2_grow_2_41 ?_
  exact qh_aret E_J2_grow_2 rfl (Or.inr ⟨_, rfl⟩) (Or.inr ⟨_, rfl⟩) dJ2_grow_2_44 (hq a ha hA)
theorem j0_growE {p : Nat} {m : Int32} (hO : qc_O g x) (hp : τ p = some (qj_o m x.1 (nI 0))) (hq : ∀ a, τ a = none → g.2.2.1 a → Q (.inl (some (.ref a))) (qh_upd (qh_upd τ a (qj_a g 10 (fun _ => none))) p (qj_o m a (nI 0)))) : qh_S g (d + 3) 11 I_J2_grow [.ref p] τ Q := by
  refine qh_S.of (by decide) rfl (ls := [some (.ref p)]) rfl (Nat.le_of_ble_eq_true rfl) (qm_ct rfl) ?_
  refine qh_aload_n E_J2_grow (by rfl) dJ2_grow_0 ?_
  refine qh_aload_n E_J2_grow (by rfl) dJ2_grow_1 ?_
  refine qh_getf E_J2_grow rfl qj_ck 2 (by decide) q219 hp rfl dJ2_grow_2 ?_
  refine qh_iconst E_J2_grow 1 (by decide) dJ2_grow_5 ?_
  refine qh_iadd E_J2_grow dJ2_grow_6 ?_
  refine qh_wp.cost (c' := 0 + 11) (by omega) ?_
  refine qh_callV (c := 0) (k := 11) (As := [.int (nI 1)]) (rest := []) E_J2_grow rfl M_J2_grow_2 rfl q911 q913 qs5 rfl rfl hp rfl rfl (Nat.le_of_ble_eq_true rfl) dJ2_grow_7 ?_
  refine j0_grow2E hO hp (fun a ha hA => ?_)
  exact qh_aret E_J2_grow rfl (Or.inr ⟨_, rfl⟩) (Or.inr ⟨_, rfl⟩) dJ2_grow_10 (hq a ha hA)
theorem j0_growF {p ea n : Nat} {m : Int32} {f : Nat → Option Nat} (hO : qc_O g x) (hp : τ p = some (qj_o m ea (nI n))) (he : τ ea = some (qj_a g n f)) (hel : ∀ i, i < n → ∀ y, f i = some y → qj_E g x τ y) (h1 : 10 ≤ n) (h2 : n ≤ 40000) (hq : ∀ a, τ a = none → g.2.2.1 a → Q (.inl (some (.ref a))) (qh_upd (qh_upd τ a (qj_a g (n + n / 2) (va_cpy f (fun _ => none) 0 0 n))) p (qj_o m a (nI n)))) : qh_S g (d + 3) (n + n / 2 + 1) I_J2_grow [.ref p] τ Q := by
  refine qh_S.of (by decide) rfl (ls := [some (.ref p)]) rfl (Nat.le_of_ble_eq_true rfl) (qm_ct rfl) ?_
  refine qh_aload_n E_J2_grow (by rfl) dJ2_grow_0 ?_
  refine qh_aload_n E_J2_grow (by rfl) dJ2_grow_1 ?_
  refine qh_getf E_J2_grow rfl qj_ck 2 (by decide) q219 hp rfl dJ2_grow_2 ?_
  refine qh_iconst E_J2_grow 1 (by decide) dJ2_grow_5 ?_
  refine qh_iadd E_J2_grow dJ2_grow_6 ?_
  refine qh_wp.cost (c' := 0 + (n + n / 2 + 1)) (by omega) ?_
  rw [show nI n + 1 = nI (n + 1) from nI_1 n]
  refine qh_callV (c := 0) (k := (n+n/2+1)) (As := [.int (nI (n + 1))]) (rest := []) E_J2_grow rfl M_J2_grow_2 rfl q911 q913 qs5 rfl rfl hp rfl rfl (Nat.le_of_ble_eq_true rfl) dJ2_grow_7 ?_
  refine j0_grow2F hO hp he hel h1 h2 (fun a ha hA => ?_)
  exact qh_aret E_J2_grow rfl (Or.inr ⟨_, rfl⟩) (Or.inr ⟨_, rfl⟩) dJ2_grow_10 (hq a ha hA)
end
