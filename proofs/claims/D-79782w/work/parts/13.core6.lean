/-! CORE 6: level 0 further: receivers, statics, arrays of references, new, casts, System.arraycopy -/
set_option maxRecDepth 100000
def qh_V (g : qh_G) (τ : qh_H) (C : String) (b : Nat) : Prop := ∀ (s : State) (H : Heap) (ws : va_W) (locs : List Loc), va_K g.2.1 qh_cl (qh_tys g.2.2.2.1) s → g.2.2.2.2 s → qh_T τ ws → va_P g.2.1 qh_cl ws H → va_S g.2.2.1 s.heap H locs → ∃ cell : Cell, H[b]? = some cell ∧ cell.vm.isStatics = false ∧ s.vm.findClass C = some cell.cls
def qh_A (g : qh_G) (τ : qh_H) (y : Nat) : Prop := ∀ (s : State) (H : Heap) (ws : va_W) (locs : List Loc), va_K g.2.1 qh_cl (qh_tys g.2.2.2.1) s → g.2.2.2.2 s → qh_T τ ws → va_P g.2.1 qh_cl ws H → va_S g.2.2.1 s.heap H locs → va_Any "java/lang/Object" s H y
theorem qh_in {A : Nat → Prop} {ws : va_W} {a : Nat} {e : va_E} (h : va_D A (ws ++ [(a, e)])) : A a := h.2 ws.length (a, e) (by simp)
section
variable {g : qh_G} {d c : Nat} {I : qh_I} {cc : ByteArray} {pc : Nat} {ls : List (Option Value)} {st : List Value} {τ : qh_H} {Q : qh_R → qh_H → Prop}
theorem qh_V.of {b ci : Nat} {fs : List Value} {r : vw_C} (hci : qh_cl[ci]? = some r) (hb : τ b = some (.inr (ci, fs))) : qh_V g τ r.1 b := by
  intro s H ws locs hK hX hT hP hS
  obtain ⟨k0, hk0⟩ := hT b _ hb
  exact va_recv hK hP hci hk0
theorem qh_A.of {b ci : Nat} {fs : List Value} {r : vw_C} (hci : qh_cl[ci]? = some r) (hw : ∀ U, g.2.2.2.2 U → va_Nw (.castable r.1 "java/lang/Object") U) (hb : τ b = some (.inr (ci, fs))) : qh_A g τ b := by
  intro s H ws locs hK hX hT hP hS
  obtain ⟨k0, hk0⟩ := hT b _ hb
  exact va_rAny hK hP hk0 hci (fun comp c0 h1 h2 => vb_asgC (hw s hX) comp c0 h1 h2)
theorem qh_A.ofV {b : Nat} {C : String} (hV : qh_V g τ C b) (hw : ∀ U, g.2.2.2.2 U → va_Nw (.castable C "java/lang/Object") U) : qh_A g τ b := by
  intro s H ws locs hK hX hT hP hS
  obtain ⟨cell, h1, h2, h3⟩ := hV s H ws locs hK hX hT hP hS
  obtain ⟨kC, hkC, -⟩ := Vm.findClass_spec h3
  exact ⟨cell, h1, h2, ⟨kC, hkC⟩, fun comp h => vb_asgC (hw s hX) comp _ h h3⟩
theorem qh_callVr {own C : String} {J : qh_I} {n index b k : Nat} {As stk rest : List Value} (e : I.2.1 = cc) (ho : I.1.cls = own) (hJ : qh_M J n) (h0 : J.2.2.2.2 = []) (q1 : Cond.methodLink own index J.1 ∈ lw_all) (q2 : Cond.instanceMethod J.1 ∈ lw_all) (q3 : Cond.selects J.1.cls J.1 J.1 ∈ lw_all) (hrc : C = J.1.cls) (hb : qh_V g τ C b) (hn : As.length = n) (hs : stk = As.reverse ++ .ref b :: rest) (hw : (rest.map fun v => v.category).sum ≤ 8) (hd : decode cc pc = .ok (.invokevirtual index, 3))
    (kk : qh_S g d k J (.ref b :: As) τ (qh_K1 g (d + 1) c I pc 3 ls rest Q)) : qh_wp g (d + 1) (c + k) I pc ls stk τ Q := by
  intro p e0 s m args below meth cd lsA ws H locs cells slots mc C hl hc hT hP hD hS h1 h2
  subst hs; subst hrc
  have hts := C.2.2.2.2.2.2.1
  have hJh : Cond.code J.1 J.2.1 J.2.2.1 J.2.2.2.1 ∈ lw_all := by rw [← qh_hd0 h0]; exact hJ.2.2.2.2.1
  exact qh_after (k := k) (rest := rest) (vx_runV (Ts := lw_all) (As := As) (rest := rest) ⟨C.1, C.2.1.trans e, C.2.2.2.2.1, ho ▸ C.2.2.2.2.2.1, hts⟩ kk (by
    rw [qh_hd0 h0]
    exact cwV (C := J.1.cls) n hts (lw_V q1 q2 q3 hJ.2.2.2.1 hJh) rfl rfl rfl ⟨rfl, hJ.1, hJ.2.1, hJ.2.2.1⟩ (qh_rm hJ.2.2.2.2.2)) ⟨qh_bl, hb s H ws locs C.2.2.2.2.2.2.2.1 C.2.2.2.2.2.2.2.2.1 hT hP hS, qh_at C hT hP hD hS⟩ rfl hn hl.1 rfl (lv_room hw) hd (qh_rc h1 h2)) C hl hc hS h1 h2
/-- invokespecial <init> -/
theorem qh_callI {own : String} {J : qh_I} {n index b k : Nat} {As stk rest : List Value} (e : I.2.1 = cc) (ho : I.1.cls = own) (hJ : qh_M J n) (h0 : J.2.2.2.2 = []) (hr : J.2.2.2.1 = none) (hi : J.1.name = "<init>") (q1 : Cond.methodLink own index J.1 ∈ lw_all) (q2 : Cond.instanceMethod J.1 ∈ lw_all) (hn : As.length = n) (hs : stk = As.reverse ++ .ref b :: rest) (hw : (rest.map fun v => v.category).sum ≤ 8) (hd : decode cc pc = .ok (.invokespecial index, 3))
    (kk : qh_S g d k J (.ref b :: As) τ (qh_K1 g (d + 1) c I pc 3 ls rest Q)) : qh_wp g (d + 1) (c + k) I pc ls stk τ Q := by
  intro p e0 s m args below meth cd lsA ws H locs cells slots mc C hl hc hT hP hD hS h1 h2
  subst hs
  have hts := C.2.2.2.2.2.2.1
  have hJh : Cond.code J.1 J.2.1 J.2.2.1 none ∈ lw_all := by rw [← hr, ← qh_hd0 h0]; exact hJ.2.2.2.2.1
  exact qh_after (k := k) (rest := rest) (vx_runI (Ts := lw_all) (As := As) (rest := rest) ⟨C.1, C.2.1.trans e, C.2.2.2.2.1, ho ▸ C.2.2.2.2.2.1, hts⟩ kk (by
    rw [qh_hd0 h0, hr]
    exact cwI n hts (lw_meth hJh) rfl rfl rfl (hts _ hJ.2.2.2.1) (hts _ q1) (hts _ q2) hi ⟨hJ.1, hJ.2.1, hJ.2.2.1⟩ (qh_rm hJ.2.2.2.2.2)) ⟨qh_bl, qh_at C hT hP hD hS⟩ rfl hn hl.1 rfl (lv_room hw) hd (qh_rc h1 h2)) C hl hc hS h1 h2
/-- super() of java/lang/Object -/
theorem qh_objInit {own : String} {idx a : Nat} (e : I.2.1 = cc) (ho : I.1.cls = own) (q1 : Cond.methodLink own idx Lib.objectInit ∈ lw_all) (q2 : Cond.instanceMethod Lib.objectInit ∈ lw_all) (q3 : Cond.code Lib.objectInit ⟨#[0xb1]⟩ 1 none ∈ lw_all) (hd : decode cc pc = .ok (.invokespecial idx, 3)) (hw : (st.map fun v => v.category).sum ≤ 8) (kk : qh_wp g d c I (pc + 3) ls st τ Q) : qh_wp g d c I pc ls (.ref a :: st) τ Q := by
  intro p e0 s m args below meth cd lsA ws H locs cells slots mc C hl hc hT hP hD hS h1 h2
  have hts := C.2.2.2.2.2.2.1
  refine W.objInit C.1 (C.2.1.trans e) (ho ▸ C.2.2.2.2.2.1) (hts _ q1) (hts _ q2) (hts _ q3) rfl (by rw [C.2.2.2.2.1]; exact hl.1) rfl hd ?_ ?_ (kk p e0 s m args below meth cd lsA ws H locs cells slots mc C hl hc hT hP hD hS h1 h2)
  · show 1 ≤ d + 10
    omega
  · have hz : 2 * (F0 m pc lsA (.ref a :: st)).monitorRoom + (st.map fun v => v.category).sum ≤ 8 := lv_room hw
    show 2 * (F0 m pc lsA (.ref a :: st)).monitorRoom + (st.map fun v => v.category).sum + 12 ≤ 200 * d + 400
    omega
theorem qh_new {own Cn : String} {ci index N : Nat} {T : u_T} {ty : Nat → FieldType} {fs : List Value} (e : I.2.1 = cc) (ho : I.1.cls = own) (ck : qh_K ci Cn T N ty) (q1 : Cond.classLink own index Cn ∈ lw_all) (q2 : Cond.instantiable Cn N ∈ lw_all) (q3 : Cond.initialized Cn ∈ lw_all) (hfs : ∀ j, j < N → defaultValue (ty j) = vp_V fs j) (hd : decode cc pc = .ok (.new index, 3))
    (kk : ∀ a : Nat, τ a = none → g.2.2.1 a → qh_wp g d c I (pc + 3) ls (.ref a :: st) (qh_upd τ a (.inr (ci, fs))) Q) : qh_wp g d (c + (N + 1)) I pc ls st τ Q := by
  intro p e0 s m args below meth cd lsA ws H locs cells slots mc C hl hc hT hP hD hS h1 h2
  have hts := C.2.2.2.2.2.2.1
  refine va_new C.1 (C.2.1.trans e) hts ck.2.1 ty ck.2.2.1 (ho ▸ C.2.2.2.2.2.1) (hts _ q1) (hts _ q2) (hts _ q3) C.2.2.2.2.2.2.2.1 hP hD hS C.2.2.2.2.2.2.2.2.2.1 ck.1 hfs ?_ ?_ hd (fun a H1 hP1 hD1 hS1 => ?_)
  · show cells + 1 ≤ mc
    omega
  · show slots + N ≤ mc
    omega
  · exact kk a (hT.push hD1).2 (qh_in hD1) p e0 s m args below meth cd lsA _ H1 locs (cells + 1) (slots + N) mc C hl hc (hT.push hD1).1 hP1 hD1 hS1 (by omega) (by omega)
theorem qh_cls {s : State} {tys : List (ClassId × FieldType)} {D : va_G} {cA : ClassId} {ty : FieldType} {t0 : Nat} {c0 : ClassId} (hK : va_K D qh_cl (tys ++ [(cA, ty)]) s) (ht : tys[t0]? = some (c0, ty)) : cA = c0 := by
  have h1 := (hK.2 tys.length (cA, ty) (by simp)).2
  have h2 := (hK.2 t0 (c0, ty) (by rw [List.getElem?_append_left (List.getElem?_eq_some_iff.mp ht).1]; exact ht)).2
  cases ty with
  | object C =>
    obtain ⟨_, _, -, -, -, e1⟩ := h1
    obtain ⟨_, _, -, -, -, e2⟩ := h2
    exact Option.some.inj (e1.symm.trans e2)
  | _ => exact Option.some.inj (h1.symm.trans h2)
theorem qh_newI {n : Int32} {N' : Nat} (e : I.2.1 = cc) (q : Cond.arrayClass .int ∈ lw_all) (hn : ¬ n < 0) (hN : n.toNatClampNeg = N') (hb : N' ≤ 100000) (hd : decode cc pc = .ok (.newarray .int, 2))
    (kk : ∀ a : Nat, τ a = none → g.2.2.1 a → qh_wp g d c I (pc + 2) ls (.ref a :: st) (qh_upd τ a (.inl (g.2.2.2.1 0, N', .inl (fun _ => 0)))) Q) : qh_wp g d (c + (N' + 1)) I pc ls (.int n :: st) τ Q := by
  intro p e0 s m args below meth cd lsA ws H locs cells slots mc C hl hc hT hP hD hS h1 h2
  have hts := C.2.2.2.2.2.2.1
  refine va_newa (atype := .int) (ty := .int) (a0 := (N', .inl (fun _ => 0))) C.1 (C.2.1.trans e) (hts _ q) rfl C.2.2.2.2.2.2.2.1 hP hD hS C.2.2.2.2.2.2.2.2.2.1 (fun _ => rfl) hn hN ?_ ?_ ?_ hd (fun a cA H1 hK1 hP1 hD1 hS1 => ?_)
  · show N' * 4 ≤ 536870912
    omega
  · show cells + 1 ≤ mc
    omega
  · show slots + N' ≤ mc
    omega
  · have hcA : cA = g.2.2.2.1 0 := qh_cls hK1 (t0 := 0) rfl
    subst hcA
    exact kk a (hT.push hD1).2 (qh_in hD1) p e0 s m args below meth cd lsA _ H1 locs (cells + 1) (slots + N') mc C hl hc (hT.push hD1).1 hP1 hD1 hS1 (by omega) (by omega)
theorem qh_newQ {own E : String} {index : Nat} {n : Int32} {N' : Nat} (t0 : Nat) (ht : ∀ cA : Nat → ClassId, (qh_tys cA)[t0]? = some (cA t0, .object E)) (e : I.2.1 = cc) (ho : I.1.cls = own) (q : Cond.classLink own index E ∈ lw_all) (hw : ∀ U, g.2.2.2.2 U → va_AO E U) (hn : ¬ n < 0) (hN : n.toNatClampNeg = N') (hb : N' ≤ 100000) (hd : decode cc pc = .ok (.anewarray index, 3))
    (kk : ∀ a : Nat, τ a = none → g.2.2.1 a → qh_wp g d c I (pc + 3) ls (.ref a :: st) (qh_upd τ a (.inl (g.2.2.2.1 t0, N', .inr (.inr (.inr (.inr (fun _ => none))))))) Q) : qh_wp g d (c + (N' + 1)) I pc ls (.int n :: st) τ Q := by
  intro p e0 s m args below meth cd lsA ws H locs cells slots mc C hl hc hT hP hD hS h1 h2
  have hts := C.2.2.2.2.2.2.1
  refine va_newq C.1 (C.2.1.trans e) (ho ▸ C.2.2.2.2.2.1) (hts _ q) (hw s C.2.2.2.2.2.2.2.2.1) C.2.2.2.2.2.2.2.1 hP hD hS C.2.2.2.2.2.2.2.2.2.1 hn hN ?_ ?_ ?_ hd (fun a cA H1 hK1 hP1 hD1 hS1 => ?_)
  · omega
  · show cells + 1 ≤ mc
    omega
  · show slots + N' ≤ mc
    omega
  · have hcA : cA = g.2.2.2.1 t0 := qh_cls hK1 (t0 := t0) (ht _)
    subst hcA
    exact kk a (hT.push hD1).2 (qh_in hD1) p e0 s m args below meth cd lsA _ H1 locs (cells + 1) (slots + N') mc C hl hc (hT.push hD1).1 hP1 hD1 hS1 (by omega) (by omega)
theorem qh_aald {a n : Nat} {E : String} {f : Nat → Option Nat} {i : Int32} (t0 : Nat) (ht : ∀ cA : Nat → ClassId, (qh_tys cA)[t0]? = some (cA t0, .object E)) (e : I.2.1 = cc) (ha : τ a = some (.inl (g.2.2.2.1 t0, n, .inr (.inr (.inr (.inr f)))))) (hin : vp_in i n) (hd : decode cc pc = .ok (.aaload, 1)) (kk : qh_wp g d c I (pc + 1) ls (va_rf (f i.toNatClampNeg) :: st) τ Q) : qh_wp g d c I pc ls (.int i :: .ref a :: st) τ Q := by
  intro p e0 s m args below meth cd lsA ws H locs cells slots mc C hl hc hT hP hD hS h1 h2
  obtain ⟨k0, hk0⟩ := hT a _ ha
  exact va_aldq C.1 (C.2.1.trans e) C.2.2.2.2.2.2.2.1 hP k0 t0 hk0 (ht _) hin hd (kk p e0 s m args below meth cd lsA ws H locs cells slots mc C hl hc hT hP hD hS h1 h2)
/-- a store into an Object[] -/
theorem qh_aastO {a n v : Nat} {f : Nat → Option Nat} {i : Int32} (e : I.2.1 = cc) (ha : τ a = some (.inl (g.2.2.2.1 3, n, .inr (.inr (.inr (.inr f)))))) (hv : qh_A g τ v) (hin : vp_in i n) (hd : decode cc pc = .ok (.aastore, 1)) (kk : qh_wp g d c I (pc + 1) ls st (qh_upd τ a (.inl (g.2.2.2.1 3, n, .inr (.inr (.inr (.inr (va_up f i.toNatClampNeg (some v)))))))) Q) : qh_wp g d c I pc ls (.ref v :: .int i :: .ref a :: st) τ Q := by
  intro p e0 s m args below meth cd lsA ws H locs cells slots mc C hl hc hT hP hD hS h1 h2
  obtain ⟨k0, hk0⟩ := hT a _ ha
  exact va_astqM (E := "java/lang/Object") C.1 (C.2.1.trans e) C.2.2.2.2.2.2.2.1 hP hD hS k0 3 hk0 rfl (hv s H ws locs C.2.2.2.2.2.2.2.1 C.2.2.2.2.2.2.2.2.1 hT hP hS) hin hd (fun H1 locs1 hP1 hD1 hS1 => kk p e0 s m args below meth cd lsA _ H1 locs1 cells slots mc C hl hc (hT.set hD hk0) hP1 hD1 hS1 h1 h2)
theorem qh_aastN {a n : Nat} {E : String} {f : Nat → Option Nat} {i : Int32} (t0 : Nat) (ht : ∀ cA : Nat → ClassId, (qh_tys cA)[t0]? = some (cA t0, .object E)) (e : I.2.1 = cc) (ha : τ a = some (.inl (g.2.2.2.1 t0, n, .inr (.inr (.inr (.inr f)))))) (hin : vp_in i n) (hd : decode cc pc = .ok (.aastore, 1)) (kk : qh_wp g d c I (pc + 1) ls st (qh_upd τ a (.inl (g.2.2.2.1 t0, n, .inr (.inr (.inr (.inr (va_up f i.toNatClampNeg none))))))) Q) : qh_wp g d c I pc ls (.null :: .int i :: .ref a :: st) τ Q := by
  intro p e0 s m args below meth cd lsA ws H locs cells slots mc C hl hc hT hP hD hS h1 h2
  obtain ⟨k0, hk0⟩ := hT a _ ha
  exact va_astqN C.1 (C.2.1.trans e) C.2.2.2.2.2.2.2.1 hP hD hS k0 t0 hk0 (ht _) hin hd (fun H1 locs1 hP1 hD1 hS1 => kk p e0 s m args below meth cd lsA _ H1 locs1 cells slots mc C hl hc (hT.set hD hk0) hP1 hD1 hS1 h1 h2)
/-- a store of an object of the array's own class -/
theorem qh_aastC {a n v t0 ci : Nat} {r : vw_C} {vs : List Value} {f : Nat → Option Nat} {i : Int32} (ht : ∀ cA : Nat → ClassId, (qh_tys cA)[t0]? = some (cA t0, .object r.1)) (hc : qh_cl[ci]? = some r) (e : I.2.1 = cc) (ha : τ a = some (.inl (g.2.2.2.1 t0, n, .inr (.inr (.inr (.inr f)))))) (hv : τ v = some (.inr (ci, vs))) (hin : vp_in i n) (hd : decode cc pc = .ok (.aastore, 1)) (kk : qh_wp g d c I (pc + 1) ls st (qh_upd τ a (.inl (g.2.2.2.1 t0, n, .inr (.inr (.inr (.inr (va_up f i.toNatClampNeg (some v)))))))) Q) : qh_wp g d c I pc ls (.ref v :: .int i :: .ref a :: st) τ Q := by
  intro p e0 s m args below meth cd lsA ws H locs cells slots mc C hl hcc hT hP hD hS h1 h2
  obtain ⟨k0, hk0⟩ := hT a _ ha
  obtain ⟨k1, hk1⟩ := hT v _ hv
  exact va_astq C.1 (C.2.1.trans e) C.2.2.2.2.2.2.2.1 hP hD hS k0 t0 k1 ci hk0 (ht _) hk1 hc hin hd (fun H1 locs1 hP1 hD1 hS1 => kk p e0 s m args below meth cd lsA _ H1 locs1 cells slots mc C hl hcc (hT.set hD hk0) hP1 hD1 hS1 h1 h2)
/-! statics and their arrays, out of the stable part of the world -/
theorem qh_gets {own C n dd : String} {index : Nat} {v : Value} (e : I.2.1 = cc) (ho : I.1.cls = own) (hX : ∀ U, g.2.2.2.2 U → va_Z C n dd v g.2.2.1 U U.heap) (q : Cond.fieldLink own index C n dd ∈ lw_all) (hd : decode cc pc = .ok (.getstatic index, 3)) (kk : qh_wp g d c I (pc + 3) ls (v :: st) τ Q) : qh_wp g d c I pc ls st τ Q := by
  intro p e0 s m args below meth cd lsA ws H locs cells slots mc C hl hc hT hP hD hS h1 h2
  exact va_gets C.1 (C.2.1.trans e) (hX s C.2.2.2.2.2.2.2.2.1) hS (ho ▸ C.2.2.2.2.2.1) (C.2.2.2.2.2.2.1 _ q) (fun _ h => h) hd (kk p e0 s m args below meth cd lsA ws H locs cells slots mc C hl hc hT hP hD hS h1 h2)
theorem qh_tlen {ty : FieldType} {t N : Nat} {f : Nat → Value} (e : I.2.1 = cc) (hX : ∀ U, g.2.2.2.2 U → va_T ty t N f g.2.2.1 U U.heap) (hd : decode cc pc = .ok (.arraylength, 1)) (kk : qh_wp g d c I (pc + 1) ls (.int (Int32.ofNat N) :: st) τ Q) : qh_wp g d c I pc ls (.ref t :: st) τ Q := by
  intro p e0 s m args below meth cd lsA ws H locs cells slots mc C hl hc hT hP hD hS h1 h2
  exact va_tlen C.1 (C.2.1.trans e) (hX s C.2.2.2.2.2.2.2.2.1) hS rfl hd (kk p e0 s m args below meth cd lsA ws H locs cells slots mc C hl hc hT hP hD hS h1 h2)
theorem qh_tq {E : String} {t N : Nat} {f : Nat → Value} {i : Int32} (e : I.2.1 = cc) (hX : ∀ U, g.2.2.2.2 U → va_T (.object E) t N f g.2.2.1 U U.heap) (hin : vp_in i N) (hd : decode cc pc = .ok (.aaload, 1)) (kk : qh_wp g d c I (pc + 1) ls (f i.toNatClampNeg :: st) τ Q) : qh_wp g d c I pc ls (.int i :: .ref t :: st) τ Q := by
  intro p e0 s m args below meth cd lsA ws H locs cells slots mc C hl hc hT hP hD hS h1 h2
  exact vb_tq C.1 (C.2.1.trans e) (hX s C.2.2.2.2.2.2.2.2.1) hS hin rfl hd (kk p e0 s m args below meth cd lsA ws H locs cells slots mc C hl hc hT hP hD hS h1 h2)
/-- the value of a box of the cache -/
theorem qh_getb {own : String} {ad : Nat → Nat} {index k : Nat} (e : I.2.1 = cc) (ho : I.1.cls = own) (hX : ∀ U, g.2.2.2.2 U → vb_C ad g.2.2.1 U U.heap) (hk : k < 256) (q : Cond.fieldLink own index "java/lang/Integer" "value" "I" ∈ lw_all) (hd : decode cc pc = .ok (.getfield index, 3)) (kk : qh_wp g d c I (pc + 3) ls (.int (vb_c k) :: st) τ Q) : qh_wp g d c I pc ls (.ref (ad k) :: st) τ Q := by
  intro p e0 s m args below meth cd lsA ws H locs cells slots mc C hl hc hT hP hD hS h1 h2
  exact va_getX (i := k) (v := fun k => .int (vb_c k)) C.1 (C.2.1.trans e) (hX s C.2.2.2.2.2.2.2.2.1).2 hk hS (ho ▸ C.2.2.2.2.2.1) (C.2.2.2.2.2.2.1 _ q) (fun _ h => h) hd (kk p e0 s m args below meth cd lsA ws H locs cells slots mc C hl hc hT hP hD hS h1 h2)
theorem qh_V.box {ad : Nat → Nat} {k : Nat} (hX : ∀ U, g.2.2.2.2 U → vb_C ad g.2.2.1 U U.heap) (hk : k < 256) : qh_V g τ "java/lang/Integer" (ad k) := by
  intro s H ws locs hK hX0 hT hP hS
  obtain ⟨cell, h1, h2, h3, -⟩ := ((hX s hX0).1 k hk).kept hS.2.1
  exact ⟨cell, h1, h2, h3⟩
/-! casts -/
theorem qh_castY {own C nm : String} {index b : Nat} (e : I.2.1 = cc) (ho : I.1.cls = own) (q : Cond.classLink own index nm ∈ lw_all) (hw : ∀ U, g.2.2.2.2 U → va_Nw (.castable C nm) U) (hb : qh_V g τ C b) (hd : decode cc pc = .ok (.checkcast index, 3)) (kk : qh_wp g d c I (pc + 3) ls (.ref b :: st) τ Q) : qh_wp g d c I pc ls (.ref b :: st) τ Q := by
  intro p e0 s m args below meth cd lsA ws H locs cells slots mc C hl hc hT hP hD hS h1 h2
  exact va_castY C.1 (C.2.1.trans e) (ho ▸ C.2.2.2.2.2.1) (C.2.2.2.2.2.2.1 _ q) (hw s C.2.2.2.2.2.2.2.2.1) (hb s H ws locs C.2.2.2.2.2.2.2.1 C.2.2.2.2.2.2.2.2.1 hT hP hS) hd (kk p e0 s m args below meth cd lsA ws H locs cells slots mc C hl hc hT hP hD hS h1 h2)
theorem qh_castS {own : String} {index b ci : Nat} {r : vw_C} (e : I.2.1 = cc) (ho : I.1.cls = own) (hci : qh_cl[ci]? = some r) (q : Cond.classLink own index r.1 ∈ lw_all) (hb : qh_V g τ r.1 b) (hd : decode cc pc = .ok (.checkcast index, 3)) (kk : qh_wp g d c I (pc + 3) ls (.ref b :: st) τ Q) : qh_wp g d c I pc ls (.ref b :: st) τ Q := by
  intro p e0 s m args below meth cd lsA ws H locs cells slots mc C hl hc hT hP hD hS h1 h2
  exact va_castS (cC := g.2.1.1 ci) C.1 (C.2.1.trans e) (ho ▸ C.2.2.2.2.2.1) (C.2.2.2.2.2.2.1 _ q) (C.2.2.2.2.2.2.2.1.1 ci r hci).2 (hb s H ws locs C.2.2.2.2.2.2.2.1 C.2.2.2.2.2.2.2.2.1 hT hP hS) hd (kk p e0 s m args below meth cd lsA ws H locs cells slots mc C hl hc hT hP hD hS h1 h2)
theorem qh_castA {own nm : String} {index b : Nat} {x : vp_A} (t0 : Nat) {ty : FieldType} (ht : ∀ cA : Nat → ClassId, (qh_tys cA)[t0]? = some (cA t0, ty)) (hnm : ("[" ++ ty.toString) = nm) (e : I.2.1 = cc) (ho : I.1.cls = own) (q : Cond.classLink own index nm ∈ lw_all) (hb : τ b = some (.inl (g.2.2.2.1 t0, x))) (hd : decode cc pc = .ok (.checkcast index, 3)) (kk : qh_wp g d c I (pc + 3) ls (.ref b :: st) τ Q) : qh_wp g d c I pc ls (.ref b :: st) τ Q := by
  intro p e0 s m args below meth cd lsA ws H locs cells slots mc C hl hc hT hP hD hS h1 h2
  obtain ⟨k0, hk0⟩ := hT b _ hb
  have h2' := (C.2.2.2.2.2.2.2.1.2 t0 _ (ht _)).2
  have hf : s.vm.findClass nm = some (g.2.2.2.1 t0) := by
    rw [← hnm]
    cases ty with
    | object E =>
      obtain ⟨_, _, -, -, -, e1⟩ := h2'
      exact e1
    | _ => exact h2'
  exact va_castA C.1 (C.2.1.trans e) (ho ▸ C.2.2.2.2.2.1) (C.2.2.2.2.2.2.1 _ q) hP k0 hk0 hf hd (kk p e0 s m args below meth cd lsA ws H locs cells slots mc C hl hc hT hP hD hS h1 h2)
/-! System.arraycopy of an Object[], getClass, a class constant, Math.min and max -/
theorem qh_copyO {own : String} {index a0 a n0 n1 : Nat} {f h : Nat → Option Nat} {sp dp n : Int32} (e : I.2.1 = cc) (ho : I.1.cls = own) (q1 : Cond.methodLink own index arraycopyName ∈ lw_all) (q2 : Cond.native arraycopyName ∈ lw_all) (q3 : Cond.static arraycopyName ∈ lw_all) (q4 : Cond.initialized "java/lang/System" ∈ lw_all) (ha0 : τ a0 = some (.inl (g.2.2.2.1 3, n0, .inr (.inr (.inr (.inr f)))))) (ha1 : τ a = some (.inl (g.2.2.2.1 3, n1, .inr (.inr (.inr (.inr h)))))) (e1 : ¬ sp < 0) (e2 : ¬ dp < 0) (e3 : ¬ n < 0) (e4 : sp.toNatClampNeg + n.toNatClampNeg ≤ n0) (e5 : dp.toNatClampNeg + n.toNatClampNeg ≤ n1) (hel : ∀ i : Nat, i < n.toNatClampNeg → ∀ y : Nat, f (sp.toNatClampNeg + i) = some y → qh_A g τ y) (hw : (st.map fun v => v.category).sum ≤ 8) (hd : decode cc pc = .ok (.invokestatic index, 3))
    (kk : qh_wp g d c I (pc + 3) ls st (qh_upd τ a (.inl (g.2.2.2.1 3, n1, .inr (.inr (.inr (.inr (va_cpy f h sp.toNatClampNeg dp.toNatClampNeg n.toNatClampNeg))))))) Q) : qh_wp g d c I pc ls (.int n :: .int dp :: .ref a :: .int sp :: .ref a0 :: st) τ Q := by
  intro p e0 s m args below meth cd lsA ws H locs cells slots mc C hl hc hT hP hD hS h1 h2
  have hts := C.2.2.2.2.2.2.1
  obtain ⟨k0, hk0⟩ := hT a0 _ ha0
  obtain ⟨k1, hk1⟩ := hT a _ ha1
  refine va_copyM (E0 := "java/lang/Object") (E1 := "java/lang/Object") C.1 (C.2.1.trans e) (C.2.2.2.2.1.trans hl.1.symm) (ho ▸ C.2.2.2.2.2.1) (hts _ q1) (hts _ q2) (hts _ q3) (hts _ q4) C.2.2.2.2.2.2.2.1 hP hD hS k0 k1 3 3 hk0 hk1 rfl rfl e1 e2 e3 e4 e5 (fun i hi y hy => hel i hi y hy s H ws locs C.2.2.2.2.2.2.2.1 C.2.2.2.2.2.2.2.2.1 hT hP hS) ?_ ?_ hd (fun H1 locs1 hP1 hD1 hS1 => kk p e0 s m args below meth cd lsA _ H1 locs1 cells slots mc C hl hc (hT.set hD hk1) hP1 hD1 hS1 h1 h2)
  · show 1 ≤ d + 10
    omega
  · have hz : nativeFrameWords "java/lang/System" "arraycopy" 5 ≤ 100 := by decide +kernel
    show _ + (nativeFrameWords "java/lang/System" "arraycopy" 5 + 11) ≤ 200 * d + 400
    omega
theorem qh_getC {own Cn : String} {index b mi : Nat} (e : I.2.1 = cc) (ho : I.1.cls = own) (q1 : Cond.methodLink own index ⟨"java/lang/Object", "getClass", "()Ljava/lang/Class;"⟩ ∈ lw_all) (hw1 : ∀ U, g.2.2.2.2 U → va_Nw (.declares ⟨"java/lang/Object", "getClass", "()Ljava/lang/Class;"⟩) U) (q3 : Cond.selects Cn ⟨"java/lang/Object", "getClass", "()Ljava/lang/Class;"⟩ ⟨"java/lang/Object", "getClass", "()Ljava/lang/Class;"⟩ ∈ lw_all) (q4 : Cond.instanceMethod ⟨"java/lang/Object", "getClass", "()Ljava/lang/Class;"⟩ ∈ lw_all) (q5 : Cond.native ⟨"java/lang/Object", "getClass", "()Ljava/lang/Class;"⟩ ∈ lw_all) (hM : ∀ U, g.2.2.2.2 U → va_Mi Cn mi U) (hb : qh_V g τ Cn b) (hw : (st.map fun v => v.category).sum ≤ 8) (hd : decode cc pc = .ok (.invokevirtual index, 3))
    (kk : qh_wp g d c I (pc + 3) ls (.ref mi :: st) τ Q) : qh_wp g d c I pc ls (.ref b :: st) τ Q := by
  intro p e0 s m args below meth cd lsA ws H locs cells slots mc C hl hc hT hP hD hS h1 h2
  have hts := C.2.2.2.2.2.2.1
  refine va_getC C.1 (C.2.1.trans e) (C.2.2.2.2.1.trans hl.1.symm) (ho ▸ C.2.2.2.2.2.1) (hts _ q1) (va_Nw.use rfl (hw1 s C.2.2.2.2.2.2.2.2.1)) (hts _ q3) (hts _ q4) (hts _ q5) (hM s C.2.2.2.2.2.2.2.2.1) (hb s H ws locs C.2.2.2.2.2.2.2.1 C.2.2.2.2.2.2.2.2.1 hT hP hS) ?_ ?_ hd (kk p e0 s m args below meth cd lsA ws H locs cells slots mc C hl hc hT hP hD hS h1 h2)
  · show 1 ≤ d + 10
    omega
  · show _ + 14 ≤ 200 * d + 400
    omega
theorem qh_ldcM {own Cn : String} {index mi : Nat} (e : I.2.1 = cc) (ho : I.1.cls = own) (q : Cond.classLink own index Cn ∈ lw_all) (hM : ∀ U, g.2.2.2.2 U → va_Mi Cn mi U) (hd : decode cc pc = .ok (.ldc index, 2)) (kk : qh_wp g d c I (pc + 2) ls (.ref mi :: st) τ Q) : qh_wp g d c I pc ls st τ Q := by
  intro p e0 s m args below meth cd lsA ws H locs cells slots mc C hl hc hT hP hD hS h1 h2
  exact va_ldcM C.1 (C.2.1.trans e) (ho ▸ C.2.2.2.2.2.1) (C.2.2.2.2.2.2.1 _ q) (hM s C.2.2.2.2.2.2.2.2.1) hd (kk p e0 s m args below meth cd lsA ws H locs cells slots mc C hl hc hT hP hD hS h1 h2)
theorem qh_mmax {own : String} {index : Nat} {x y : Int32} (e : I.2.1 = cc) (ho : I.1.cls = own) (q1 : Cond.methodLink own index Lib.Math.max.name ∈ lw_all) (q2 : Cond.static Lib.Math.max.name ∈ lw_all) (q3 : Cond.initialized "java/lang/Math" ∈ lw_all) (q4 : Cond.code Lib.Math.max.name Lib.Math.max.code 2 (some .int) ∈ lw_all) (hw : (st.map fun v => v.category).sum ≤ 8) (hd : decode cc pc = .ok (.invokestatic index, 3)) (kk : qh_wp g d c I (pc + 3) ls (.int (if x < y then y else x) :: st) τ Q) : qh_wp g d c I pc ls (.int y :: .int x :: st) τ Q := by
  intro p e0 s m args below meth cd lsA ws H locs cells slots mc C hl hc hT hP hD hS h1 h2
  have hts := C.2.2.2.2.2.2.1
  refine va_mmax C.1 (C.2.1.trans e) (C.2.2.2.2.1.trans hl.1.symm) (ho ▸ C.2.2.2.2.2.1) (hts _ q1) (hts _ q2) (hts _ q3) (hts _ q4) ?_ ?_ ?_ ?_ hd (kk p e0 s m args below meth cd lsA ws H locs cells slots mc C hl hc hT hP hD hS h1 h2)
  · show 1 ≤ d + 10
    omega
  · show _ + 13 ≤ 200 * d + 400
    omega
  · show cells ≤ mc
    omega
  · show slots ≤ mc
    omega
theorem qh_mmin {own : String} {index : Nat} {x y : Int32} (e : I.2.1 = cc) (ho : I.1.cls = own) (q1 : Cond.methodLink own index Lib.Math.min.name ∈ lw_all) (q2 : Cond.static Lib.Math.min.name ∈ lw_all) (q3 : Cond.initialized "java/lang/Math" ∈ lw_all) (q4 : Cond.code Lib.Math.min.name Lib.Math.min.code 2 (some .int) ∈ lw_all) (hw : (st.map fun v => v.category).sum ≤ 8) (hd : decode cc pc = .ok (.invokestatic index, 3)) (kk : qh_wp g d c I (pc + 3) ls (.int (if y < x then y else x) :: st) τ Q) : qh_wp g d c I pc ls (.int y :: .int x :: st) τ Q := by
  intro p e0 s m args below meth cd lsA ws H locs cells slots mc C hl hc hT hP hD hS h1 h2
  have hts := C.2.2.2.2.2.2.1
  refine va_mmin C.1 (C.2.1.trans e) (C.2.2.2.2.1.trans hl.1.symm) (ho ▸ C.2.2.2.2.2.1) (hts _ q1) (hts _ q2) (hts _ q3) (hts _ q4) ?_ ?_ ?_ ?_ hd (kk p e0 s m args below meth cd lsA ws H locs cells slots mc C hl hc hT hP hD hS h1 h2)
  · show 1 ≤ d + 10
    omega
  · show _ + 13 ≤ 200 * d + 400
    omega
  · show cells ≤ mc
    omega
  · show slots ≤ mc
    omega
end
