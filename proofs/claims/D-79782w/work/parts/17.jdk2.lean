/-! JDK 2: ArrayList further, over level 0 -/
set_option maxRecDepth 100000
/-- what may stand in an Object[] -/
def qj_E (g : qh_G) (x : qc_X) (τ : qh_H) (y : Nat) : Prop := (∃ (ci : Nat) (fs : List Value), τ y = some (.inr (ci, fs)) ∧ (ci = 8 ∨ ci = 9 ∨ ci = 10 ∨ ci = 11 ∨ ci = 12 ∨ ci = 14 ∨ ci = 15 ∨ ci = 16 ∨ ci = 17)) ∨ (∃ z : vp_A, τ y = some (.inl (g.2.2.2.1 0, z))) ∨ ∃ k, k < 256 ∧ y = x.2.2.2 k
theorem qj_N {w : Cond} (h : w ∈ lw_tbl) (k : qc_nw w = true) : w ∈ qc_N := List.mem_filter.mpr ⟨h, k⟩
theorem qj_E.A {g : qh_G} {x : qc_X} {τ : qh_H} {y : Nat} (hO : qc_O g x) (h : qj_E g x τ y) : qh_A g τ y := by
  rcases h with ⟨ci, fs, h, hc⟩ | ⟨z, h⟩ | ⟨k, hk, rfl⟩
  · rcases hc with rfl | rfl | rfl | rfl | rfl | rfl | rfl | rfl | rfl
    · exact qh_A.of (r := (RX9, TX9, 2)) rfl (hO.2.1 _ (qj_N q2337 rfl)) h
    · exact qh_A.of (r := (RX10, TX10, 3)) rfl (hO.2.1 _ (qj_N q2352 rfl)) h
    · exact qh_A.of (r := (RX11, TX11, 4)) rfl (hO.2.1 _ (qj_N q2353 rfl)) h
    · exact qh_A.of (r := (RX12, TX12, 4)) rfl (hO.2.1 _ (qj_N q2354 rfl)) h
    · exact qh_A.of (r := (RX13, TX13, 2)) rfl (hO.2.1 _ (qj_N q2355 rfl)) h
    · exact qh_A.of (r := (RX17, TX17, 5)) rfl (hO.2.1 _ (qj_N q2358 rfl)) h
    · exact qh_A.of (r := (RX18, TX18, 4)) rfl (hO.2.1 _ (qj_N q2359 rfl)) h
    · exact qh_A.of (r := (RJ2, TJ2, 3)) rfl (hO.2.1 _ (qj_N q2342 rfl)) h
    · exact qh_A.of (r := (RJ21, TJ21, 1)) rfl (hO.2.1 _ (qj_N q2351 rfl)) h
  · intro s H ws locs hK hX hT hP hS
    obtain ⟨k0, hk0⟩ := hT y _ h
    have hcell : H[y]? = some (vp_cell (g.2.2.2.1 0) z) := hP k0 _ hk0
    have h2 : s.vm.findClass ("[" ++ (FieldType.int).toString) = some (g.2.2.2.1 0) := (hK.2 0 _ rfl).2
    obtain ⟨kC, hkC, -⟩ := Vm.findClass_spec h2
    have hcl : (vp_cell (g.2.2.2.1 0) z).cls = g.2.2.2.1 0 := by
      obtain ⟨n, f | f | f | f | f⟩ := z <;> rfl
    have hvm : (vp_cell (g.2.2.2.1 0) z).vm = .none := by
      obtain ⟨n, f | f | f | f | f⟩ := z <;> rfl
    refine ⟨_, hcell, by rw [hvm]; rfl, ⟨kC, by rw [hcl]; exact hkC⟩, fun comp hc => ?_⟩
    rw [hcl]
    exact vb_asgC (hO.2.1 _ (qj_N q2369 rfl) s hX) comp _ hc (by rw [show ("[I" : String) = "[" ++ (FieldType.int).toString by decide +kernel]; exact h2)
  · exact qh_A.ofV (qh_V.box hO.2.2.2.2.2.2.2.1 hk) (hO.2.1 _ (qj_N q2351 rfl))
theorem qj_E.up {g : qh_G} {x : qc_X} {τ : qh_H} {a y ci : Nat} {fs fs' : List Value} (h : qj_E g x τ y) (ha : τ a = some (.inr (ci, fs))) : qj_E g x (qh_upd τ a (.inr (ci, fs'))) y := by
  by_cases n : y = a
  · subst n
    rcases h with ⟨c2, f2, h, hc⟩ | ⟨z, h⟩ | h
    · rw [ha] at h
      cases h
      exact Or.inl ⟨_, _, qh_upd_s, hc⟩
    · rw [ha] at h
      cases h
    · exact Or.inr (Or.inr h)
  · rcases h with ⟨c2, f2, h, hc⟩ | ⟨z, h⟩ | h
    · exact Or.inl ⟨c2, f2, by rw [qh_upd_n n]; exact h, hc⟩
    · exact Or.inr (Or.inl ⟨z, by rw [qh_upd_n n]; exact h⟩)
    · exact Or.inr (Or.inr h)
theorem qj_E.new {g : qh_G} {x : qc_X} {τ : qh_H} {a y : Nat} {e : va_E} (h : qj_E g x τ y) (ha : τ a = none) : qj_E g x (qh_upd τ a e) y := by
  have n : ∀ b e', τ b = some e' → b ≠ a := fun b e' hb z => by rw [z, ha] at hb; cases hb
  rcases h with ⟨c2, f2, h, hc⟩ | ⟨z, h⟩ | h
  · exact Or.inl ⟨c2, f2, by rw [qh_upd_n (n _ _ h)]; exact h, hc⟩
  · exact Or.inr (Or.inl ⟨z, by rw [qh_upd_n (n _ _ h)]; exact h⟩)
  · exact Or.inr (Or.inr h)
theorem qj_mx : Cond.code Lib.Math.max.name Lib.Math.max.code 2 (some .int) ∈ lw_all := q631
theorem qj_mn : Cond.code Lib.Math.min.name Lib.Math.min.code 2 (some .int) ∈ lw_all := q628
theorem qh_ldc {g : qh_G} {d c : Nat} {I : qh_I} {cc : ByteArray} {pc : Nat} {ls : List (Option Value)} {st : List Value} {τ : qh_H} {Q : qh_R → qh_H → Prop} {own : String} {index : Nat} {v : Int32} (e : I.2.1 = cc) (ho : I.1.cls = own) (q : Cond.constant own index v ∈ lw_all) (hd : decode cc pc = .ok (.ldc index, 2)) (kk : qh_wp g d c I (pc + 2) ls (.int v :: st) τ Q) : qh_wp g d c I pc ls st τ Q := by
  intro p e0 s m args below meth cd lsA ws H locs cells slots mc C hl hc hT hP hD hS h1 h2
  exact lv_ldc C.1 (C.2.1.trans e) (ho ▸ C.2.2.2.2.2.1) (C.2.2.2.2.2.2.1 _ q) hd (kk p e0 s m args below meth cd lsA ws H locs cells slots mc C hl hc hT hP hD hS h1 h2)
section
variable {g : qh_G} {x : qc_X} {d : Nat} {τ : qh_H} {Q : qh_R → qh_H → Prop}
theorem j0_init1 {p : Nat} {m b n : Value} (hp : τ p = some (.inr (16, [m, b, n]))) (hq : Q (.inl none) (qh_upd τ p (.inr (16, [.int 0, b, n])))) : qh_S g (d + 1) 0 I_J1_init [.ref p] τ Q := by
  refine qh_S.of (by decide) rfl (ls := [some (.ref p)]) rfl (Nat.le_of_ble_eq_true rfl) (qm_ct rfl) ?_
  refine qh_aload_n E_J1_init (by rfl) dJ1_init_0 ?_
  refine qh_callI (c := 0) (k := 0) (As := []) (rest := []) E_J1_init rfl M_J0_init rfl rfl rfl q212 q213 rfl rfl (Nat.le_of_ble_eq_true rfl) dJ1_init_1 ?_
  refine j0_init0 ?_
  refine qh_aload_n E_J1_init (by rfl) dJ1_init_4 ?_
  refine qh_iconst E_J1_init 0 (by decide) dJ1_init_5 ?_
  refine qh_putf E_J1_init rfl qj_ck 0 (by decide) q220 rfl rfl rfl hp (Nat.le_of_ble_eq_true rfl) dJ1_init_6 ?_
  exact qh_vret E_J1_init rfl dJ1_init_9 hq
theorem j0_init {p : Nat} {m b n : Value} (hO : qc_O g x) (hp : τ p = some (.inr (16, [m, b, n]))) (hq : Q (.inl none) (qh_upd τ p (.inr (16, [.int 0, .ref x.1, n])))) : qh_S g (d + 2) 0 I_J2_init [.ref p] τ Q := by
  refine qh_S.of (by decide) rfl (ls := [some (.ref p)]) rfl (Nat.le_of_ble_eq_true rfl) (qm_ct rfl) ?_
  refine qh_aload_n E_J2_init (by rfl) dJ2_init_0 ?_
  refine qh_callI (c := 0) (k := 0) (As := []) (rest := []) E_J2_init rfl M_J1_init rfl rfl rfl q209 q210 rfl rfl (Nat.le_of_ble_eq_true rfl) dJ2_init_1 ?_
  refine j0_init1 hp ?_
  refine qh_aload_n E_J2_init (by rfl) dJ2_init_4 ?_
  refine qh_gets E_J2_init rfl hO.2.2.1 q216 dJ2_init_5 ?_
  refine qh_putf E_J2_init rfl qj_ck 1 (by decide) q218 rfl rfl rfl qh_upd_s (Nat.le_of_ble_eq_true rfl) dJ2_init_8 ?_
  rw [qh_uu]
  exact qh_vret E_J2_init rfl dJ2_init_11 hq
theorem j0_isEmpty {p : Nat} {a b : Value} {n : Int32} (hp : τ p = some (.inr (16, [a, b, .int n]))) (hq : Q (.inl (some (.int (if n = 0 then 1 else 0)))) τ) : qh_S g d 0 I_J2_isEmpty [.ref p] τ Q := by
  refine qh_S.of (by decide) rfl (ls := [some (.ref p)]) rfl (Nat.le_of_ble_eq_true rfl) (qm_ct rfl) ?_
  refine qh_aload_n E_J2_isEmpty (by rfl) dJ2_isEmpty_0 ?_
  refine qh_getf E_J2_isEmpty rfl qj_ck 2 (by decide) q219 hp rfl dJ2_isEmpty_1 ?_
  refine qh_if_ne E_J2_isEmpty 11 dJ2_isEmpty_4 (by decide) (fun c1 => ?_) (fun c1 => ?_)
  · rw [if_neg c1] at hq
    refine qh_iconst E_J2_isEmpty 0 (by decide) dJ2_isEmpty_11 ?_
    exact qh_zret E_J2_isEmpty rfl rfl dJ2_isEmpty_12 hq
  · rw [if_pos (by simpa using c1)] at hq
    refine qh_iconst E_J2_isEmpty 1 (by decide) dJ2_isEmpty_7 ?_
    refine qh_goto E_J2_isEmpty 12 dJ2_isEmpty_8 (by decide) ?_
    exact qh_zret E_J2_isEmpty rfl rfl dJ2_isEmpty_12 hq
theorem j0_set {p ea cap y : Nat} {m : Value} {n : Int32} {f : Nat → Option Nat} {i : Int32} (hO : qc_O g x) (hp : τ p = some (.inr (16, [m, .ref ea, .int n]))) (he : τ ea = some (.inl (g.2.2.2.1 3, cap, .inr (.inr (.inr (.inr f)))))) (h0 : ¬ i < 0) (h1 : i < n) (hi : vp_in i cap) {a : Nat} (hf : f i.toNatClampNeg = some a) (hy : qj_E g x τ y) (hq : Q (.inl (some (.ref a))) (qh_upd τ ea (.inl (g.2.2.2.1 3, cap, .inr (.inr (.inr (.inr (va_up f i.toNatClampNeg (some y))))))))) : qh_S g (d + 2) 0 I_J2_set [.ref p, .int i, .ref y] τ Q := by
  refine qh_S.of (by decide) rfl (ls := [some (.ref p), some (.int i), some (.ref y), none]) rfl (Nat.le_of_ble_eq_true rfl) (qm_ct rfl) ?_
  refine qh_iload_n E_J2_set (by rfl) dJ2_set_0 ?_
  refine qh_aload_n E_J2_set (by rfl) dJ2_set_1 ?_
  refine qh_getf E_J2_set rfl qj_ck 2 (by decide) q219 hp rfl dJ2_set_2 ?_
  refine qh_callS (c := 0) (k := 0) (As := [.int i, .int n]) (rest := []) E_J2_set rfl M_J10_checkIndex rfl q583 q584 rfl rfl (Nat.le_of_ble_eq_true rfl) dJ2_set_5 ?_
  refine j0_checkIndex h0 h1 ?_
  refine qh_pop E_J2_set rfl dJ2_set_8 ?_
  refine qh_aload_n E_J2_set (by rfl) dJ2_set_9 ?_
  refine qh_iload_n E_J2_set (by rfl) dJ2_set_10 ?_
  refine qh_callV (c := 0) (k := 0) (As := [.int i]) (rest := []) E_J2_set rfl M_J2_elementData rfl q589 q590 q591 rfl rfl hp rfl rfl (Nat.le_of_ble_eq_true rfl) dJ2_set_11 ?_
  refine j0_elementData hp he hi hf ?_
  refine qh_astore_n E_J2_set (by decide) dJ2_set_14 ?_
  refine qh_aload_n E_J2_set (by rfl) dJ2_set_15 ?_
  refine qh_getf E_J2_set rfl qj_ck 1 (by decide) q218 hp rfl dJ2_set_16 ?_
  refine qh_iload_n E_J2_set (by rfl) dJ2_set_19 ?_
  refine qh_aload_n E_J2_set (by rfl) dJ2_set_20 ?_
  refine qh_aastO E_J2_set he (hy.A hO) hi dJ2_set_21 ?_
  refine qh_aload_n E_J2_set (by rfl) dJ2_set_22 ?_
  exact qh_aret E_J2_set rfl (Or.inl ⟨_, rfl⟩) (Or.inr ⟨_, rfl⟩) dJ2_set_23 hq
theorem j0_newLength {a b e : Int32} (h0 : 0 < a + (if b < e then e else b)) (h1 : a + (if b < e then e else b) ≤ 100000) (hq : Q (.inl (some (.int (a + (if b < e then e else b))))) τ) : qh_S g d 0 I_J17_newLength [.int a, .int b, .int e] τ Q := by
  refine qh_S.of (by decide) rfl (ls := [some (.int a), some (.int b), some (.int e), none]) rfl (Nat.le_of_ble_eq_true rfl) (qm_ct rfl) ?_
  refine qh_iload_n E_J17_newLength (by rfl) dJ17_newLength_0 ?_
  refine qh_iload_n E_J17_newLength (by rfl) dJ17_newLength_1 ?_
  refine qh_iload_n E_J17_newLength (by rfl) dJ17_newLength_2 ?_
  refine qh_mmax E_J17_newLength rfl q723 q630 q106 qj_mx (Nat.le_of_ble_eq_true rfl) dJ17_newLength_3 ?_
  refine qh_iadd E_J17_newLength dJ17_newLength_6 ?_
  refine qh_istore_n E_J17_newLength (by decide) dJ17_newLength_7 ?_
  refine qh_iconst E_J17_newLength 0 (by decide) dJ17_newLength_8 ?_
  refine qh_iload_n E_J17_newLength (by rfl) dJ17_newLength_9 ?_
  refine qh_icmp_ge E_J17_newLength 21 dJ17_newLength_10 (by decide) (fun q => absurd h0 (Int32.not_lt.mpr q)) (fun _ => ?_)
  refine qh_iload_n E_J17_newLength (by rfl) dJ17_newLength_13 ?_
  refine qh_ldc (v := 2147483639) E_J17_newLength rfl q724 dJ17_newLength_14 ?_
  refine qh_icmp_gt E_J17_newLength 21 dJ17_newLength_16 (by decide) (fun q => absurd (Int32.lt_of_lt_of_le q h1) (by decide)) (fun _ => ?_)
  refine qh_iload_n E_J17_newLength (by rfl) dJ17_newLength_19 ?_
  exact qh_iret E_J17_newLength rfl dJ17_newLength_20 hq
end
