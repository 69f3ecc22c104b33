/-! JDK: the methods of ArrayList that are used, over level 0 -/
set_option maxRecDepth 100000
theorem qj_ck : qh_K 16 RJ2 TJ2 3 tyJ2 := ⟨rfl, in_J2, tyJ2_ok, nmJ2⟩
section
variable {g : qh_G} {d c : Nat} {I : qh_I} {cc : ByteArray} {pc : Nat} {ls : List (Option Value)} {st : List Value} {τ : qh_H} {Q : qh_R → qh_H → Prop}
theorem qh_getfS {own Cn ref : String} {ci index N a : Nat} {T : u_T} {ty : Nat → FieldType} {fs : List Value} {v : Value} (e : I.2.1 = cc) (ho : I.1.cls = own) (ck : qh_K ci Cn T N ty) (k : Nat) (hk : k < N) (q : Cond.fieldLink own index ref (T k).2.1 (T k).2.2.1 ∈ lw_all) (qs : Cond.sameField ref (T k).1 (T k).2.1 (T k).2.2.1 ∈ lw_all) (ha : τ a = some (.inr (ci, fs))) (hv : fs[k]? = some v) (hd : decode cc pc = .ok (.getfield index, 3))
    (kk : qh_wp g d c I (pc + 3) ls (v :: st) τ Q) : qh_wp g d c I pc ls (.ref a :: st) τ Q := by
  intro p e0 s m args below meth cd lsA ws H locs cells slots mc C hl hc hT hP hD hS h1 h2
  obtain ⟨k0, hk0⟩ := hT a _ ha
  exact va_get C.1 (C.2.1.trans e) C.2.2.2.2.2.2.1 ck.2.1 (ho ▸ C.2.2.2.2.2.1) C.2.2.2.2.2.2.2.1 hP k0 hk0 ck.1 k hk (C.2.2.2.2.2.2.1 _ q) (u_same (C.2.2.2.2.2.2.1 _ qs)) hv hd (kk p e0 s m args below meth cd lsA ws H locs cells slots mc C hl hc hT hP hD hS h1 h2)
theorem qh_putfS {own Cn ref : String} {ci index N a : Nat} {T : u_T} {ty : Nat → FieldType} {fs : List Value} {v : Value} (e : I.2.1 = cc) (ho : I.1.cls = own) (ck : qh_K ci Cn T N ty) (k : Nat) (hk : k < N) (q : Cond.fieldLink own index ref (T k).2.1 (T k).2.2.1 ∈ lw_all) (qs : Cond.sameField ref (T k).1 (T k).2.1 (T k).2.2.1 ∈ lw_all) (hf : (T k).2.2.2 = false) (hn : narrow (ty k) v = v) (hfit : fits (ty k) v = true) (ha : τ a = some (.inr (ci, fs))) (hl9 : k < fs.length) (hd : decode cc pc = .ok (.putfield index, 3))
    (kk : qh_wp g d c I (pc + 3) ls st (qh_upd τ a (.inr (ci, fs.set k v))) Q) : qh_wp g d c I pc ls (v :: .ref a :: st) τ Q := by
  intro p e0 s m args below meth cd lsA ws H locs cells slots mc C hl hc hT hP hD hS h1 h2
  obtain ⟨k0, hk0⟩ := hT a _ ha
  exact va_put C.1 (C.2.1.trans e) C.2.2.2.2.2.2.1 ck.2.1 ty ck.2.2.1 ck.2.2.2 (ho ▸ C.2.2.2.2.2.1) C.2.2.2.2.2.2.2.1 hP hD hS k0 hk0 ck.1 k hk (C.2.2.2.2.2.2.1 _ q) (u_same (C.2.2.2.2.2.2.1 _ qs)) hf (ck.2.2.1 k hk) hn hfit hl9 hd (fun H1 locs1 hP1 hD1 hS1 => kk p e0 s m args below meth cd lsA _ H1 locs1 cells slots mc C hl hc (hT.set hD hk0) hP1 hD1 hS1 h1 h2)
end
theorem qh_uu {τ : qh_H} {a : Nat} {e e' : va_E} : qh_upd (qh_upd τ a e) a e' = qh_upd τ a e' := by
  funext b
  by_cases h : b = a
  · rw [h, qh_upd_s, qh_upd_s]
  · rw [qh_upd_n h, qh_upd_n h, qh_upd_n h]
def I_J0_init : qh_I := (yJ0_init, cJ0_init, 1, (Option.none : Option Jvm.ClassFile.FieldType), [])
theorem E_J0_init : I_J0_init.2.1 = cJ0_init := rfl
theorem M_J0_init : qh_M I_J0_init 0 := ⟨by decide, by decide, by decide +kernel, q90, q214, by decide⟩
def I_J1_init : qh_I := (yJ1_init, cJ1_init, 1, (Option.none : Option Jvm.ClassFile.FieldType), [])
theorem E_J1_init : I_J1_init.2.1 = cJ1_init := rfl
theorem M_J1_init : qh_M I_J1_init 0 := ⟨by decide, by decide, by decide +kernel, q91, q211, by decide⟩
def I_J2_init : qh_I := (yJ2_init, cJ2_init, 1, (Option.none : Option Jvm.ClassFile.FieldType), [])
theorem E_J2_init : I_J2_init.2.1 = cJ2_init := rfl
theorem M_J2_init : qh_M I_J2_init 0 := ⟨by decide, by decide, by decide +kernel, q92, q208, by decide⟩
def I_J2_size : qh_I := (yJ2_size, cJ2_size, 1, (Option.some Jvm.ClassFile.FieldType.int), [])
theorem E_J2_size : I_J2_size.2.1 = cJ2_size := rfl
theorem M_J2_size : qh_M I_J2_size 0 := ⟨by decide, by decide, by decide +kernel, q92, q369, by decide⟩
def I_J2_isEmpty : qh_I := (yJ2_isEmpty, cJ2_isEmpty, 1, (Option.some Jvm.ClassFile.FieldType.boolean), [])
theorem E_J2_isEmpty : I_J2_isEmpty.2.1 = cJ2_isEmpty := rfl
theorem M_J2_isEmpty : qh_M I_J2_isEmpty 0 := ⟨by decide, by decide, by decide +kernel, q92, q1253, by decide⟩
def I_J2_elementData : qh_I := (yJ2_elementData, cJ2_elementData, 2, (Option.some (Jvm.ClassFile.FieldType.object "java/lang/Object")), [])
theorem E_J2_elementData : I_J2_elementData.2.1 = cJ2_elementData := rfl
theorem M_J2_elementData : qh_M I_J2_elementData 1 := ⟨by decide, by decide, by decide +kernel, q92, q592, by decide⟩
def I_J10_checkIndex : qh_I := (yJ10_checkIndex, cJ10_checkIndex, 2, (Option.some Jvm.ClassFile.FieldType.int), [])
theorem E_J10_checkIndex : I_J10_checkIndex.2.1 = cJ10_checkIndex := rfl
theorem M_J10_checkIndex : qh_M I_J10_checkIndex 2 := ⟨by decide, by decide, by decide +kernel, q103, q585, by decide⟩
def I_J11_checkIndex : qh_I := (yJ11_checkIndex, cJ11_checkIndex, 3, (Option.some Jvm.ClassFile.FieldType.int), [])
theorem E_J11_checkIndex : I_J11_checkIndex.2.1 = cJ11_checkIndex := rfl
theorem M_J11_checkIndex : qh_M I_J11_checkIndex 3 := ⟨by decide, by decide, by decide +kernel, q104, q588, by decide⟩
def I_J2_get : qh_I := (yJ2_get, cJ2_get, 2, (Option.some (Jvm.ClassFile.FieldType.object "java/lang/Object")), [])
theorem E_J2_get : I_J2_get.2.1 = cJ2_get := rfl
theorem M_J2_get : qh_M I_J2_get 1 := ⟨by decide, by decide, by decide +kernel, q92, q582, by decide⟩
def I_J2_set : qh_I := (yJ2_set, cJ2_set, 4, (Option.some (Jvm.ClassFile.FieldType.object "java/lang/Object")), [])
theorem E_J2_set : I_J2_set.2.1 = cJ2_set := rfl
theorem M_J2_set : qh_M I_J2_set 2 := ⟨by decide, by decide, by decide +kernel, q92, q1065, by decide⟩
def I_J2_clear : qh_I := (yJ2_clear, cJ2_clear, 4, (Option.none : Option Jvm.ClassFile.FieldType), [])
theorem E_J2_clear : I_J2_clear.2.1 = cJ2_clear := rfl
theorem M_J2_clear : qh_M I_J2_clear 0 := ⟨by decide, by decide, by decide +kernel, q92, q373, by decide⟩
def I_J2_fastRemove : qh_I := (yJ2_fastRemove, cJ2_fastRemove, 4, (Option.none : Option Jvm.ClassFile.FieldType), [])
theorem E_J2_fastRemove : I_J2_fastRemove.2.1 = cJ2_fastRemove := rfl
theorem M_J2_fastRemove : qh_M I_J2_fastRemove 2 := ⟨by decide, by decide, by decide +kernel, q92, q1021, by decide⟩
def I_J2_remove : qh_I := (yJ2_remove, cJ2_remove, 4, (Option.some (Jvm.ClassFile.FieldType.object "java/lang/Object")), [])
theorem E_J2_remove : I_J2_remove.2.1 = cJ2_remove := rfl
theorem M_J2_remove : qh_M I_J2_remove 1 := ⟨by decide, by decide, by decide +kernel, q92, q1017, by decide⟩
def I_J17_newLength : qh_I := (yJ17_newLength, cJ17_newLength, 4, (Option.some Jvm.ClassFile.FieldType.int), [])
theorem E_J17_newLength : I_J17_newLength.2.1 = cJ17_newLength := rfl
theorem M_J17_newLength : qh_M I_J17_newLength 3 := ⟨by decide, by decide, by decide +kernel, q111, q722, by decide⟩
def I_J18_copyOf_2 : qh_I := (yJ18_copyOf_2, cJ18_copyOf_2, 2, (Option.some (Jvm.ClassFile.FieldType.array (Jvm.ClassFile.FieldType.object "java/lang/Object"))), [])
theorem E_J18_copyOf_2 : I_J18_copyOf_2.2.1 = cJ18_copyOf_2 := rfl
theorem M_J18_copyOf_2 : qh_M I_J18_copyOf_2 2 := ⟨by decide, by decide, by decide +kernel, q112, q918, by decide⟩
def I_J18_copyOf_3 : qh_I := (yJ18_copyOf_3, cJ18_copyOf_3, 4, (Option.some (Jvm.ClassFile.FieldType.array (Jvm.ClassFile.FieldType.object "java/lang/Object"))), [])
theorem E_J18_copyOf_3 : I_J18_copyOf_3.2.1 = cJ18_copyOf_3 := rfl
theorem M_J18_copyOf_3 : qh_M I_J18_copyOf_3 3 := ⟨by decide, by decide, by decide +kernel, q112, q951, by decide⟩
def I_J2_grow : qh_I := (yJ2_grow, cJ2_grow, 1, (Option.some (Jvm.ClassFile.FieldType.array (Jvm.ClassFile.FieldType.object "java/lang/Object"))), [])
theorem E_J2_grow : I_J2_grow.2.1 = cJ2_grow := rfl
theorem M_J2_grow : qh_M I_J2_grow 0 := ⟨by decide, by decide, by decide +kernel, q92, q910, by decide⟩
def I_J2_grow_2 : qh_I := (yJ2_grow_2, cJ2_grow_2, 4, (Option.some (Jvm.ClassFile.FieldType.array (Jvm.ClassFile.FieldType.object "java/lang/Object"))), [])
theorem E_J2_grow_2 : I_J2_grow_2.2.1 = cJ2_grow_2 := rfl
theorem M_J2_grow_2 : qh_M I_J2_grow_2 1 := ⟨by decide, by decide, by decide +kernel, q92, q914, by decide⟩
def I_J2_add_3 : qh_I := (yJ2_add_3, cJ2_add_3, 4, (Option.none : Option Jvm.ClassFile.FieldType), [])
theorem E_J2_add_3 : I_J2_add_3.2.1 = cJ2_add_3 := rfl
theorem M_J2_add_3 : qh_M I_J2_add_3 3 := ⟨by decide, by decide, by decide +kernel, q92, q989, by decide⟩
def I_J2_add_2 : qh_I := (yJ2_add_2, cJ2_add_2, 2, (Option.some Jvm.ClassFile.FieldType.boolean), [])
theorem E_J2_add_2 : I_J2_add_2.2.1 = cJ2_add_2 := rfl
theorem M_J2_add_2 : qh_M I_J2_add_2 1 := ⟨by decide, by decide, by decide +kernel, q92, q985, by decide⟩
def I_J2_rangeCheckForAdd : qh_I := (yJ2_rangeCheckForAdd, cJ2_rangeCheckForAdd, 2, (Option.none : Option Jvm.ClassFile.FieldType), [])
theorem E_J2_rangeCheckForAdd : I_J2_rangeCheckForAdd.2.1 = cJ2_rangeCheckForAdd := rfl
theorem M_J2_rangeCheckForAdd : qh_M I_J2_rangeCheckForAdd 1 := ⟨by decide, by decide, by decide +kernel, q92, q663, by decide⟩
def I_J2_add : qh_I := (yJ2_add, cJ2_add, 5, (Option.none : Option Jvm.ClassFile.FieldType), [])
theorem E_J2_add : I_J2_add.2.1 = cJ2_add := rfl
theorem M_J2_add : qh_M I_J2_add 2 := ⟨by decide, by decide, by decide +kernel, q92, q659, by decide⟩
section
variable {g : qh_G} {d : Nat} {τ : qh_H} {Q : qh_R → qh_H → Prop}
theorem j0_init0 {p : Nat} (hq : Q (.inl none) τ) : qh_S g d 0 I_J0_init [.ref p] τ Q := by
  refine qh_S.of (by decide) rfl (ls := [some (.ref p)]) rfl (Nat.le_of_ble_eq_true rfl) (qm_ct rfl) ?_
  refine qh_aload_n E_J0_init (by rfl) dJ0_init_0 ?_
  refine qh_objInit E_J0_init rfl q215 q133 q134 dJ0_init_1 (Nat.le_of_ble_eq_true rfl) ?_
  exact qh_vret E_J0_init rfl dJ0_init_4 hq
theorem j0_size {p : Nat} {a b : Value} {n : Int32} (hp : τ p = some (.inr (16, [a, b, .int n]))) (hq : Q (.inl (some (.int n))) τ) : qh_S g d 0 I_J2_size [.ref p] τ Q := by
  refine qh_S.of (by decide) rfl (ls := [some (.ref p)]) rfl (Nat.le_of_ble_eq_true rfl) (qm_ct rfl) ?_
  refine qh_aload_n E_J2_size (by rfl) dJ2_size_0 ?_
  refine qh_getf E_J2_size rfl qj_ck 2 (by decide) q219 hp rfl dJ2_size_1 ?_
  exact qh_iret E_J2_size rfl dJ2_size_4 hq
theorem j0_checkIndex1 {i n : Int32} {v : Value} (h0 : ¬ i < 0) (h1 : i < n) (hq : Q (.inl (some (.int i))) τ) : qh_S g d 0 I_J11_checkIndex [.int i, .int n, .null] τ Q := by
  refine qh_S.of (by decide) rfl (ls := [some (.int i), some (.int n), some .null]) rfl (Nat.le_of_ble_eq_true rfl) (qm_ct rfl) ?_
  refine qh_iload_n E_J11_checkIndex (by rfl) dJ11_checkIndex_0 ?_
  refine qh_if_lt E_J11_checkIndex 9 dJ11_checkIndex_1 (by decide) (fun q => absurd q h0) (fun _ => ?_)
  refine qh_iload_n E_J11_checkIndex (by rfl) dJ11_checkIndex_4 ?_
  refine qh_iload_n E_J11_checkIndex (by rfl) dJ11_checkIndex_5 ?_
  refine qh_icmp_lt E_J11_checkIndex 16 dJ11_checkIndex_6 (by decide) (fun _ => ?_) (fun q => absurd h1 q)
  refine qh_iload_n E_J11_checkIndex (by rfl) dJ11_checkIndex_16 ?_
  exact qh_iret E_J11_checkIndex rfl dJ11_checkIndex_17 hq
theorem j0_checkIndex {i n : Int32} (h0 : ¬ i < 0) (h1 : i < n) (hq : Q (.inl (some (.int i))) τ) : qh_S g (d + 1) 0 I_J10_checkIndex [.int i, .int n] τ Q := by
  refine qh_S.of (by decide) rfl (ls := [some (.int i), some (.int n)]) rfl (Nat.le_of_ble_eq_true rfl) (qm_ct rfl) ?_
  refine qh_iload_n E_J10_checkIndex (by rfl) dJ10_checkIndex_0 ?_
  refine qh_iload_n E_J10_checkIndex (by rfl) dJ10_checkIndex_1 ?_
  refine qh_null E_J10_checkIndex dJ10_checkIndex_2 ?_
  refine qh_callS (c := 0) (k := 0) (As := [.int i, .int n, .null]) (rest := []) E_J10_checkIndex rfl M_J11_checkIndex rfl q586 q587 rfl rfl (Nat.le_of_ble_eq_true rfl) dJ10_checkIndex_3 ?_
  refine j0_checkIndex1 (v := .null) h0 h1 ?_
  exact qh_iret E_J10_checkIndex rfl dJ10_checkIndex_6 hq
theorem j0_elementData {p ea cap : Nat} {m : Value} {n : Value} {f : Nat → Option Nat} {i : Int32} (hp : τ p = some (.inr (16, [m, .ref ea, n]))) (he : τ ea = some (.inl (g.2.2.2.1 3, cap, .inr (.inr (.inr (.inr f)))))) (hi : vp_in i cap) {a : Nat} (hf : f i.toNatClampNeg = some a) (hq : Q (.inl (some (.ref a))) τ) : qh_S g d 0 I_J2_elementData [.ref p, .int i] τ Q := by
  refine qh_S.of (by decide) rfl (ls := [some (.ref p), some (.int i)]) rfl (Nat.le_of_ble_eq_true rfl) (qm_ct rfl) ?_
  refine qh_aload_n E_J2_elementData (by rfl) dJ2_elementData_0 ?_
  refine qh_getf E_J2_elementData rfl qj_ck 1 (by decide) q218 hp rfl dJ2_elementData_1 ?_
  refine qh_iload_n E_J2_elementData (by rfl) dJ2_elementData_4 ?_
  refine qh_aald 3 (fun _ => rfl) E_J2_elementData he hi dJ2_elementData_5 ?_
  rw [hf]
  exact qh_aret E_J2_elementData rfl (Or.inl ⟨_, rfl⟩) (Or.inr ⟨_, rfl⟩) dJ2_elementData_6 hq
theorem j0_get {p ea cap : Nat} {m : Value} {n : Int32} {f : Nat → Option Nat} {i : Int32} (hp : τ p = some (.inr (16, [m, .ref ea, .int n]))) (he : τ ea = some (.inl (g.2.2.2.1 3, cap, .inr (.inr (.inr (.inr f)))))) (h0 : ¬ i < 0) (h1 : i < n) (hi : vp_in i cap) {a : Nat} (hf : f i.toNatClampNeg = some a) (hq : Q (.inl (some (.ref a))) τ) : qh_S g (d + 2) 0 I_J2_get [.ref p, .int i] τ Q := by
  refine qh_S.of (by decide) rfl (ls := [some (.ref p), some (.int i)]) rfl (Nat.le_of_ble_eq_true rfl) (qm_ct rfl) ?_
  refine qh_iload_n E_J2_get (by rfl) dJ2_get_0 ?_
  refine qh_aload_n E_J2_get (by rfl) dJ2_get_1 ?_
  refine qh_getf E_J2_get rfl qj_ck 2 (by decide) q219 hp rfl dJ2_get_2 ?_
  refine qh_callS (c := 0) (k := 0) (As := [.int i, .int n]) (rest := []) E_J2_get rfl M_J10_checkIndex rfl q583 q584 rfl rfl (Nat.le_of_ble_eq_true rfl) dJ2_get_5 ?_
  refine j0_checkIndex h0 h1 ?_
  refine qh_pop E_J2_get rfl dJ2_get_8 ?_
  refine qh_aload_n E_J2_get (by rfl) dJ2_get_9 ?_
  refine qh_iload_n E_J2_get (by rfl) dJ2_get_10 ?_
  refine qh_callV (c := 0) (k := 0) (As := [.int i]) (rest := []) E_J2_get rfl M_J2_elementData rfl q589 q590 q591 rfl rfl hp rfl rfl (Nat.le_of_ble_eq_true rfl) dJ2_get_11 ?_
  refine j0_elementData hp he hi hf ?_
  exact qh_aret E_J2_get rfl (Or.inl ⟨_, rfl⟩) (Or.inr ⟨_, rfl⟩) dJ2_get_14 hq
end
