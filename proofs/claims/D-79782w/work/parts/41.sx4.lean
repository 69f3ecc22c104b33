/-! SX 4 (printed by mk_sx4.py): the constructors of Exception, Failed and NoAnswer, and their throws -/
set_option maxRecDepth 100000
section
variable {p : Program} {l : Launch} {e : Env} {R : Room} {s : State} {m : MethodId} {args : Array Value} {below : List Frame} {meth : Method} {c : Code} {Q : State → Prop} {cells slots : Nat} {cc : ByteArray} {ls : Array Slot}
/-- a constructor called on a new exception -/
theorem W.exSup {H : Heap} {locs : List Loc} {cls : String} {cX : ClassId} {a : Nat} {A : Nat → Prop} {own : String} {index pc maxL n k nL : Nat} {y : MethodName} {bytes : ByteArray} {vs rest : List Value} (hx : p.tables.exec = Jvm.exec) (hb : c.code = cc) (hml : c.maxLocals = nL) (hown : s.vm.findClass own = some m.cls) (hts : ∀ w ∈ lw_all, w.before args s = true) (hsize : ls.size = nL) (hM : Met l y (ws_ y bytes maxL none) (exRm k) (va_Pc (.ref a :: vs) (exP cls cX a A)) (exQ cX a) 0 0 (fun q => q = a))
    (cw : CallB R s args own index y bytes maxL none (ws_ y bytes maxL none) (exRm k) 0 0 n ∧ y.name = "<init>" ∧ (Cond.instanceMethod y).before args s = true) (hP : exH cls cX a A s H) (hn : vs.length = n) (hw : (rest.map fun v => v.category).sum ≤ 8) (hd : decode cc pc = .ok (.invokespecial index, 3)) (hc : cells ≤ R.cells) (hs : slots ≤ R.slots)
    (kk : ∀ (H1 : Heap) (ce : Cell) (locs' : List Loc), H1[a]? = some ce → ce.cls = cX → ce.vm = .none → H1.size = H.size → (∀ q, q ≠ a → H1[q]? = H[q]?) → (∀ y ∈ locs', y ∈ locs ∨ y.base = a) → W p l e R s m args below meth c H1 locs' cells slots Q (F0 m (pc + 3) ls rest)) : W p l e R s m args below meth c H locs cells slots Q (F0 m pc ls (vs.reverse ++ .ref a :: rest)) := by
  have hr := va_runI (cells := cells) (slots := slots) (H := H) (locs := locs) (below := below) (meth := meth) (e := e) (g := F0 m pc ls (vs.reverse ++ .ref a :: rest)) (As := vs) (b := a) (rest := rest) ⟨hx, hb, hml, hown, hts⟩ hM cw ⟨fun a' U g mk q => ⟨q.1, exP.moved (Vm.Alike.refl U.vm) rfl q.2⟩, fun U hU hW => ⟨rfl, hP.P hW.alike hU⟩⟩ rfl hn hsize rfl (by show 2 * 0 + _ ≤ 8; omega) hd ⟨hc, hs⟩
  intro T hT X
  obtain ⟨v, st₀, t, T', L, h0, X', hL, e1, e2, ⟨hq0, ⟨ce, q1, q2, q3⟩, q4, q5⟩, st⟩ := hr T hT X
  cases hq0
  rw [h0] at q4 q5
  obtain ⟨t2, a1, b1⟩ := kk T'.heap ce (locs ++ L) (by rw [e1]; exact q1) q2 q3 (by rw [e1]; exact q4) (fun q hq => by rw [e1]; exact q5 q hq) (fun y hy => by
    rcases List.mem_append.mp hy with h | h
    · exact Or.inl h
    · exact Or.inr (hL y h)) T' rfl X'
  exact ⟨t2, st t2 a1, b1⟩
theorem W.exLdcW {H : Heap} {locs : List Loc} {own text : String} {index sa pc : Nat} {rest : List Value} (hx : p.tables.exec = Jvm.exec) (hb : c.code = cc) (hown : s.vm.findClass own = some m.cls) (hstr : vk_R own index text sa s) (hd : decode cc pc = .ok (.ldc_w index, 3)) (kk : W p l e R s m args below meth c H locs cells slots Q (F0 m (pc + 3) ls (.ref sa :: rest))) : W p l e R s m args below meth c H locs cells slots Q (F0 m pc ls rest) := by
  intro T hT X
  obtain ⟨t, a1, b1⟩ := kk T hT X
  exact ⟨t, X.ldcStringW hx (own := own) (text := text) (index := index) (a := sa) hown hstr.1 hstr.2 (g := F0 m pc ls rest) rfl (by rw [hb]; exact hd) _ a1, b1⟩
end
section
variable {l : Launch} {cls : String} {cX : ClassId} {a sa : Nat} {A : Nat → Prop}
theorem ex_exc1 (hl : l.stackTraces = false) (hcls : ∀ w ∈ exW cls, w ∈ lw_all) : Met l yJ4_init (ws_ yJ4_init cJ4_init 2 none) (exRm 1) (va_Pc [.ref a, .ref sa] (exP cls cX a A)) (exQ cX a) 0 0 (fun q => q = a) := by
  refine Met.ofW (cc := cJ4_init) (maxL := 2) (ret := none) (by decide) rfl ?_
  intro p e s m args below meth c s₁ B hml hv
  obtain ⟨rfl, hv⟩ := hv
  have hts0 := atoms_spec (ws := ws_ yJ4_init cJ4_init 2 none) B.pre
  have hts : ∀ w ∈ lw_all, w.before _ s = true := fun w h => hts0 w (List.mem_cons_of_mem _ h)
  have hl2 := lv_entry ([.ref a, .ref sa]) (n := 2) (Nat.le_of_ble_eq_true rfl)
  rw [lg_entry_eq]
  generalize (lg_sl ([.ref a, .ref sa]) ++ List.replicate (2 - (lg_sl ([.ref a, .ref sa])).length) Slot.unset).toArray = ls at hl2 ⊢
  have hl2 : lv_has ls 2 [(0, .ref a), (1, .ref sa)] := hl2
  refine lv_aload_n (k := 0) B.exec B.bytes dJ4_init_0 rfl (lv_at hl2 0 rfl) ?_
  refine lv_aload_n (k := 1) B.exec B.bytes dJ4_init_1 rfl (lv_at hl2 1 rfl) ?_
  refine W.exSup (vs := [.ref sa]) (rest := []) B.exec B.bytes hml (findClass_of_methodNamed B.named) hts hl2.1 (ex_thr1 hl hcls) (cwI 1 hts (lw_meth q420) rfl rfl rfl (hts _ q96) (hts _ q418) (hts _ q419) rfl (by decide +kernel) ⟨Nat.le_of_ble_eq_true rfl, Nat.le_of_ble_eq_true rfl⟩) hv rfl (Nat.zero_le _) dJ4_init_2 (Nat.zero_le _) (Nat.zero_le _) fun H1 ce locs' g1 g2 g3 g4 g5 g6 => ?_
  refine W.vret B.exec B.bytes B.returns (fun t ht hw => ⟨rfl, ⟨ce, by rw [ht]; exact g1, g2, g3⟩, by rw [ht]; exact g4, fun q hq => by rw [ht]; exact g5 q hq⟩) (fun q hq => ?_) dJ4_init_5
  rcases g6 q hq with h | h
  · cases h
  · exact h
theorem ex_exc2 {r : Option Nat} (hl : l.stackTraces = false) (hcls : ∀ w ∈ exW cls, w ∈ lw_all) : Met l yJ4_init_2 (ws_ yJ4_init_2 cJ4_init_2 3 none) (exRm 1) (va_Pc [.ref a, .ref sa, va_rf r] (exP cls cX a A)) (exQ cX a) 0 0 (fun q => q = a) := by
  refine Met.ofW (cc := cJ4_init_2) (maxL := 3) (ret := none) (by decide) rfl ?_
  intro p e s m args below meth c s₁ B hml hv
  obtain ⟨rfl, hv⟩ := hv
  have hts0 := atoms_spec (ws := ws_ yJ4_init_2 cJ4_init_2 3 none) B.pre
  have hts : ∀ w ∈ lw_all, w.before _ s = true := fun w h => hts0 w (List.mem_cons_of_mem _ h)
  have hl2 : ∃ ls, lv_has ls 3 [(0, .ref a), (1, .ref sa), (2, va_rf r)] ∧ entryFrame m ([.ref a, .ref sa, va_rf r] : List Value).toArray 3 = F0 m 0 ls [] := by
    have hl2 := lv_entry ([.ref a, .ref sa, va_rf r]) (n := 3) (by cases r <;> exact Nat.le_of_ble_eq_true rfl)
    refine ⟨_, ?_, lg_entry_eq _ _ _⟩
    cases r <;> exact hl2
  obtain ⟨ls, hl2, he⟩ := hl2
  rw [he]
  refine lv_aload_n (k := 0) B.exec B.bytes dJ4_init_2_0 rfl (lv_at hl2 0 rfl) ?_
  refine lv_aload_n (k := 1) B.exec B.bytes dJ4_init_2_1 rfl (lv_at hl2 1 rfl) ?_
  refine W.exLd (k := 2) (r := r) B.exec B.bytes dJ4_init_2_2 (lv_at hl2 2 rfl) ?_
  refine W.exSup (vs := [.ref sa, va_rf r]) (rest := []) B.exec B.bytes hml (findClass_of_methodNamed B.named) hts hl2.1 (ex_thr2 hl hcls) (cwI 2 hts (lw_meth q1446) rfl rfl rfl (hts _ q96) (hts _ q1444) (hts _ q1445) rfl (by decide +kernel) ⟨Nat.le_of_ble_eq_true rfl, Nat.le_of_ble_eq_true rfl⟩) hv rfl (Nat.zero_le _) dJ4_init_2_3 (Nat.zero_le _) (Nat.zero_le _) fun H1 ce locs' g1 g2 g3 g4 g5 g6 => ?_
  refine W.vret B.exec B.bytes B.returns (fun t ht hw => ⟨rfl, ⟨ce, by rw [ht]; exact g1, g2, g3⟩, by rw [ht]; exact g4, fun q hq => by rw [ht]; exact g5 q hq⟩) (fun q hq => ?_) dJ4_init_2_6
  rcases g6 q hq with h | h
  · cases h
  · exact h
theorem ex_fail (hl : l.stackTraces = false) (hcls : ∀ w ∈ exW cls, w ∈ lw_all) : Met l yX16_init (ws_ yX16_init cX16_init 2 none) (exRm 2) (va_Pc [.ref a, .ref sa] (exP cls cX a A)) (exQ cX a) 0 0 (fun q => q = a) := by
  refine Met.ofW (cc := cX16_init) (maxL := 2) (ret := none) (by decide) rfl ?_
  intro p e s m args below meth c s₁ B hml hv
  obtain ⟨rfl, hv⟩ := hv
  have hts0 := atoms_spec (ws := ws_ yX16_init cX16_init 2 none) B.pre
  have hts : ∀ w ∈ lw_all, w.before _ s = true := fun w h => hts0 w (List.mem_cons_of_mem _ h)
  have hl2 := lv_entry ([.ref a, .ref sa]) (n := 2) (Nat.le_of_ble_eq_true rfl)
  rw [lg_entry_eq]
  generalize (lg_sl ([.ref a, .ref sa]) ++ List.replicate (2 - (lg_sl ([.ref a, .ref sa])).length) Slot.unset).toArray = ls at hl2 ⊢
  have hl2 : lv_has ls 2 [(0, .ref a), (1, .ref sa)] := hl2
  refine lv_aload_n (k := 0) B.exec B.bytes dX16_init_0 rfl (lv_at hl2 0 rfl) ?_
  refine lv_aload_n (k := 1) B.exec B.bytes dX16_init_1 rfl (lv_at hl2 1 rfl) ?_
  refine W.exSup (vs := [.ref sa]) (rest := []) B.exec B.bytes hml (findClass_of_methodNamed B.named) hts hl2.1 (ex_exc1 hl hcls) (cwI 1 hts (lw_meth q417) rfl rfl rfl (hts _ q97) (hts _ q1461) (hts _ q416) rfl (by decide +kernel) ⟨Nat.le_of_ble_eq_true rfl, Nat.le_of_ble_eq_true rfl⟩) hv rfl (Nat.zero_le _) dX16_init_2 (Nat.zero_le _) (Nat.zero_le _) fun H1 ce locs' g1 g2 g3 g4 g5 g6 => ?_
  refine W.vret B.exec B.bytes B.returns (fun t ht hw => ⟨rfl, ⟨ce, by rw [ht]; exact g1, g2, g3⟩, by rw [ht]; exact g4, fun q hq => by rw [ht]; exact g5 q hq⟩) (fun q hq => ?_) dX16_init_5
  rcases g6 q hq with h | h
  · cases h
  · exact h
theorem ex_noan {r : Option Nat} (hl : l.stackTraces = false) (hcls : ∀ w ∈ exW cls, w ∈ lw_all) : Met l yX15_init (ws_ yX15_init cX15_init 3 none) (exRm 2) (va_Pc [.ref a, .ref sa, va_rf r] (exP cls cX a A)) (exQ cX a) 0 0 (fun q => q = a) := by
  refine Met.ofW (cc := cX15_init) (maxL := 3) (ret := none) (by decide) rfl ?_
  intro p e s m args below meth c s₁ B hml hv
  obtain ⟨rfl, hv⟩ := hv
  have hts0 := atoms_spec (ws := ws_ yX15_init cX15_init 3 none) B.pre
  have hts : ∀ w ∈ lw_all, w.before _ s = true := fun w h => hts0 w (List.mem_cons_of_mem _ h)
  have hl2 : ∃ ls, lv_has ls 3 [(0, .ref a), (1, .ref sa), (2, va_rf r)] ∧ entryFrame m ([.ref a, .ref sa, va_rf r] : List Value).toArray 3 = F0 m 0 ls [] := by
    have hl2 := lv_entry ([.ref a, .ref sa, va_rf r]) (n := 3) (by cases r <;> exact Nat.le_of_ble_eq_true rfl)
    refine ⟨_, ?_, lg_entry_eq _ _ _⟩
    cases r <;> exact hl2
  obtain ⟨ls, hl2, he⟩ := hl2
  rw [he]
  refine lv_aload_n (k := 0) B.exec B.bytes dX15_init_0 rfl (lv_at hl2 0 rfl) ?_
  refine lv_aload_n (k := 1) B.exec B.bytes dX15_init_1 rfl (lv_at hl2 1 rfl) ?_
  refine W.exLd (k := 2) (r := r) B.exec B.bytes dX15_init_2 (lv_at hl2 2 rfl) ?_
  refine W.exSup (vs := [.ref sa, va_rf r]) (rest := []) B.exec B.bytes hml (findClass_of_methodNamed B.named) hts hl2.1 (ex_exc2 hl hcls) (cwI 2 hts (lw_meth q1443) rfl rfl rfl (hts _ q97) (hts _ q1441) (hts _ q1442) rfl (by decide +kernel) ⟨Nat.le_of_ble_eq_true rfl, Nat.le_of_ble_eq_true rfl⟩) hv rfl (Nat.zero_le _) dX15_init_3 (Nat.zero_le _) (Nat.zero_le _) fun H1 ce locs' g1 g2 g3 g4 g5 g6 => ?_
  refine W.vret B.exec B.bytes B.returns (fun t ht hw => ⟨rfl, ⟨ce, by rw [ht]; exact g1, g2, g3⟩, by rw [ht]; exact g4, fun q hq => by rw [ht]; exact g5 q hq⟩) (fun q hq => ?_) dX15_init_6
  rcases g6 q hq with h | h
  · cases h
  · exact h
end
theorem exW_in {ws : List Cond} (ps : List Nat) (hp : ws = ps.filterMap (fun i => lw_tbl[i]?)) (hg : ws.all goodWord = true) : ∀ w ∈ ws, w ∈ lw_all := by
  intro w hw
  refine lw_g ?_ (List.all_eq_true.mp hg w hw)
  rw [hp] at hw
  obtain ⟨i, -, h⟩ := List.mem_filterMap.mp hw
  exact List.mem_of_getElem? h
theorem exW_X15 : ∀ w ∈ exW RX15, w ∈ lw_all := exW_in [96, 475, 427, 435, 438, 440, 476, 477, 133, 134, 421, 426, 436, 443, 469, 444, 470, 445, 471, 422, 424, 472, 442, 1429, 1431, 430, 1432, 1433, 1434, 1435, 441, 473, 1436] rfl rfl
theorem exW_X16 : ∀ w ∈ exW RX16, w ∈ lw_all := exW_in [96, 475, 427, 435, 438, 440, 476, 477, 133, 134, 421, 426, 436, 443, 469, 444, 470, 445, 471, 422, 424, 472, 442, 1449, 1451, 429, 1452, 1453, 1454, 1455, 441, 473, 1456] rfl rfl
