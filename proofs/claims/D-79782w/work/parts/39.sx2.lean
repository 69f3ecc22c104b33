/-! SX 2: the constructors of Throwable, without traces -/
set_option maxRecDepth 100000
def exW (cls : String) : List Cond := [
  .initialized Bundle.tN, .superclass Bundle.tN "java/lang/Object",
  .instanceMethod Bundle.tFill, .codeSync Bundle.tFill LibCode.Throwable.Fill.code 1 (some (.object Bundle.tN)), .instanceMethod Bundle.tFill0, .native Bundle.tFill0,
  .instanceMethod Bundle.tInit0, .code Bundle.tInit0 LibCode.Throwable.Init0.code 1 none, .instanceMethod Bundle.oInit, .code Bundle.oInit ⟨#[0xb1]⟩ 1 none,
  .methodLink Bundle.tN 1 Bundle.oInit, .methodLink Bundle.tN 27 Bundle.tFill, .methodLink Bundle.tN 202 Bundle.tFill0,
  .fieldLink Bundle.tN 7 Bundle.tN "cause" "Ljava/lang/Throwable;", .lays Bundle.tN Bundle.tN "cause" "Ljava/lang/Throwable;",
  .fieldLink Bundle.tN 17 Bundle.tN "stackTrace" Bundle.steD, .lays Bundle.tN Bundle.tN "stackTrace" Bundle.steD,
  .fieldLink Bundle.tN 24 Bundle.tN "suppressedExceptions" Bundle.listD, .lays Bundle.tN Bundle.tN "suppressedExceptions" Bundle.listD,
  .fieldLink Bundle.tN 13 Bundle.tN "UNASSIGNED_STACK" Bundle.steD, .fieldLink Bundle.tN 20 Bundle.tN "SUPPRESSED_SENTINEL" Bundle.listD,
  .lays Bundle.tN Bundle.tN "detailMessage" "Ljava/lang/String;", .fieldLink Bundle.tN 31 Bundle.tN "detailMessage" "Ljava/lang/String;",
  .instantiable cls 6, .selects cls Bundle.tFill0 Bundle.tFill0, .selects cls Bundle.tFill Bundle.tFill,
  .lays cls Bundle.tN "cause" "Ljava/lang/Throwable;", .lays cls Bundle.tN "stackTrace" Bundle.steD, .lays cls Bundle.tN "suppressedExceptions" Bundle.listD, .lays cls Bundle.tN "detailMessage" "Ljava/lang/String;",
  .fieldLink Bundle.tN 198 Bundle.tN "backtrace" "Ljava/lang/Object;", .lays Bundle.tN Bundle.tN "backtrace" "Ljava/lang/Object;", .lays cls Bundle.tN "backtrace" "Ljava/lang/Object;"]
/-- a field of Throwable, in a cell: what a store asks -/
def exF (s : State) (C : Cell) (nm ds : String) : Prop := ∃ (cf : ClassId) (k : Class) (i : Nat) (f : Field), s.fieldFound? Bundle.tN nm ds = some (cf, k, i, f) ∧ f.isStatic = false ∧ s.vm.findClass Bundle.tN = some cf ∧ ∀ v : Value, v.isRef = true → narrow f.type v = v ∧ f.slot < C.slots.size ∧ s.fitsSlot C.cls C.vm f.slot v = true
theorem exF.set {s : State} {C : Cell} {nm ds : String} (h : exF s C nm ds) (i : Nat) (v : Value) : exF s (C.setSlot i v) nm ds := by
  obtain ⟨cf, k, j, f, h1, h2, h3, h4⟩ := h
  refine ⟨cf, k, j, f, h1, h2, h3, fun w hw => ⟨(h4 w hw).1, ?_, (h4 w hw).2.2⟩⟩
  show f.slot < (C.slots.setIfInBounds i v).size
  rw [Array.size_setIfInBounds]
  exact (h4 w hw).2.1
section
variable {p : Program} {l : Launch} {e : Env} {R : Room} {s : State} {m : MethodId} {args : Array Value} {below : List Frame} {meth : Method} {c : Code} {Q : State → Prop} {cells slots : Nat} {cc : ByteArray} {ls : Array Slot}
theorem W.exPut {H : Heap} {locs : List Loc} {a : Addr} {C : Cell} {nm ds : String} {index pc : Nat} {v : Value} {rest : List Value} (hx : p.tables.exec = Jvm.exec) (hb : c.code = cc) (hown : s.vm.findClass Bundle.tN = some m.cls) (hname : meth.name = "<init>") (hlink : (Cond.fieldLink Bundle.tN index Bundle.tN nm ds).before args s = true) (hF : exF s C nm ds) (hcell : H[a]? = some C) (hvm : C.vm = .none) (hv : v.isRef = true) (hd : decode cc pc = .ok (.putfield index, 3))
    (kk : ∀ i, W p l e R s m args below meth c (H.setIfInBounds a (C.setSlot i v)) (locs ++ [⟨a, i⟩]) cells slots Q (F0 m (pc + 3) ls rest)) : W p l e R s m args below meth c H locs cells slots Q (F0 m pc ls (v :: .ref a :: rest)) := by
  obtain ⟨cf, k, i, f, f1, f2, f3, f4⟩ := hF
  obtain ⟨g1, g2, g3⟩ := f4 v hv
  exact W.putf hx hb hown hlink f1 f2 (Or.inr ⟨Option.some.inj (hown.symm.trans f3), hname⟩) hcell (by rw [hvm]; simp) g2 g1 g3 (g := F0 m pc ls (v :: .ref a :: rest)) rfl rfl hd (kk f.slot)
theorem ex_get {H : Heap} {a : Addr} {C C' : Cell} (h : H[a]? = some C) : (H.setIfInBounds a C')[a]? = some C' := by
  have := (Array.getElem?_eq_some_iff.mp h).1
  rw [Array.getElem?_setIfInBounds, if_pos rfl, if_pos this]
theorem ex_ne {H : Heap} {a q : Addr} {C' : Cell} (h : q ≠ a) : (H.setIfInBounds a C')[q]? = H[q]? := by
  rw [Array.getElem?_setIfInBounds, if_neg (Ne.symm h)]
set_option maxHeartbeats 4000000 in
theorem W.exHead {cls : String} {cX : ClassId} {kX : Class} {a : Addr} {A : Nat → Prop} (hx : p.tables.exec = Jvm.exec) (hb : c.code = cc) (htr : l.stackTraces = false) (hown : s.vm.findClass Bundle.tN = some m.cls) (hname : meth.name = "<init>") (hW : ∀ w ∈ exW cls, w.before args s = true) (hU : vx_Zq Bundle.tN "UNASSIGNED_STACK" Bundle.steD A s s.heap) (hN : vx_Zq Bundle.tN "SUPPRESSED_SENTINEL" Bundle.listD A s s.heap) (hfound : s.vm.findClass cls = some cX) (hk : s.vm.classes[cX]? = some kX) (hcell : s.heap[a]? = some (freshCell cX kX)) (hl : ls[0]? = some (.val (.ref a))) (hsize : ls.size = c.maxLocals)
    (d0 : decode cc 0 = .ok (.aload_n 0, 1)) (d1 : decode cc 1 = .ok (.invokespecial 1, 3)) (d4 : decode cc 4 = .ok (.aload_n 0, 1)) (d5 : decode cc 5 = .ok (.aload_n 0, 1)) (d6 : decode cc 6 = .ok (.putfield 7, 3)) (d9 : decode cc 9 = .ok (.aload_n 0, 1)) (d10 : decode cc 10 = .ok (.getstatic 13, 3)) (d13 : decode cc 13 = .ok (.putfield 17, 3)) (d16 : decode cc 16 = .ok (.aload_n 0, 1)) (d17 : decode cc 17 = .ok (.getstatic 20, 3)) (d20 : decode cc 20 = .ok (.putfield 24, 3)) (d23 : decode cc 23 = .ok (.aload_n 0, 1)) (d24 : decode cc 24 = .ok (.invokevirtual 27, 3)) (d27 : decode cc 27 = .ok (.pop, 1)) (h1 : 2 < R.frames) (h2 : 60 ≤ R.locals)
    (kk : ∀ (H' : Heap) (C6 : Cell) (locs' : List Loc), H'[a]? = some C6 → C6.cls = cX → C6.vm = .none → exF s C6 "detailMessage" "Ljava/lang/String;" → exF s C6 "cause" "Ljava/lang/Throwable;" → H'.size = s.heap.size → (∀ q, q ≠ a → H'[q]? = s.heap[q]?) → (∀ y ∈ locs', y.base = a) → W p l e R s m args below meth c H' locs' cells slots Q (F0 m 28 ls [])) : W p l e R s m args below meth c s.heap [] cells slots Q (F0 m 0 ls []) := by
  suffices hh : l.admits e → W p l e R s m args below meth c s.heap [] cells slots Q (F0 m 0 ls []) by
    intro T hT X
    exact hh X.admits T hT X
  intro hadm
  have howns : e.platform.frameOwnsMonitors = true := by rw [hadm.platform]
  have hfin : e.platform.finalization = false := by rw [hadm.platform]
  have hpl : e.platform.magicAccessors = ({} : Platform).magicAccessors := by rw [hadm.platform]
  have tA : ∀ w ∈ Bundle.throwableAtoms, w.before args s = true := by
    intro w hw
    simp only [Bundle.throwableAtoms, List.mem_cons, List.not_mem_nil, or_false] at hw
    rcases hw with rfl | rfl | rfl | rfl | rfl | rfl | rfl | rfl | rfl | rfl | rfl | rfl | rfl | rfl | rfl | rfl | rfl | rfl | rfl | rfl | rfl | rfl | rfl | rfl <;> first | exact hU.2.word | exact hN.2.word | exact hW _ (by simp [exW])
  obtain ⟨T, Z0, L, -, Y⟩ := ThrowableC.of_atoms (args := args) howns hfin hpl tA
  have hmc : m.cls = T.cT := Option.some.inj (hown.symm.trans Y.found)
  obtain ⟨c1, kX', hc1, hk', hord, -, -, hn6⟩ := Cond.instantiable_spec (hW (.instantiable cls 6) (by simp [exW]))
  cases Option.some.inj (hc1.symm.trans hfound)
  cases Option.some.inj (hk.symm.trans hk')
  have hsel0 : selectMethod e.platform s.vm cX T.fill0 = .method T.fill0 := by
    obtain ⟨c2, r2, m2, q1, q2, q3, q4, -⟩ := Cond.selects_spec (hW (.selects cls Bundle.tFill0 Bundle.tFill0) (by simp [exW]))
    cases Option.some.inj (q1.symm.trans hfound)
    cases Option.some.inj (q2.symm.trans (State.methodFound?_of_named Y.fill0 (by decide)))
    cases Option.some.inj (q3.symm.trans Y.fill0)
    rw [Launch.admits_selectMethod hadm]; exact q4
  have hselF : selectMethod e.platform s.vm cX T.fill = .method T.fill := by
    obtain ⟨c2, r2, m2, q1, q2, q3, q4, -⟩ := Cond.selects_spec (hW (.selects cls Bundle.tFill Bundle.tFill) (by simp [exW]))
    cases Option.some.inj (q1.symm.trans hfound)
    cases Option.some.inj (q2.symm.trans (State.methodFound?_of_named Y.fill (by decide)))
    cases Option.some.inj (q3.symm.trans Y.fill)
    rw [Launch.admits_selectMethod hadm]; exact q4
  obtain ⟨cellS, hcS, hiss⟩ := Y.statics
  obtain ⟨u0, hvU⟩ := Cond.staticRefV Y.unassigned L.unassignedStatic L.statics hcS hiss (vx_isRefq (args := args) hU.1)
  obtain ⟨sen, hvSen⟩ := Cond.staticRefV Y.sentinel L.sentinelStatic L.statics hcS hiss (vx_isRefq (args := args) hN.1)
  have hu0 : u0.v.isRef = true := by
    obtain ⟨v, hv⟩ := u0
    exact hv
  have hse : sen.v.isRef = true := by
    obtain ⟨v, hv⟩ := sen
    exact hv
  have hneS : T.aS ≠ a := fun h => by
    rw [h, hcell] at hcS
    rw [← Option.some.inj hcS] at hiss
    cases hiss
  have hknS : cellS.vm ≠ .unknown := fun h => by
    rw [h] at hiss
    cases hiss
  obtain ⟨ci198, i198, fB, hk198, hg198, ha198, hsB, -, hnB, htB, hffB⟩ := Cond.ownField (t := .object "java/lang/Object") Y.found L.cls (by decide +kernel) (hW (.fieldLink Bundle.tN 198 Bundle.tN "backtrace" "Ljava/lang/Object;") (by simp [exW])) (hW (.lays Bundle.tN Bundle.tN "backtrace" "Ljava/lang/Object;") (by simp [exW])) e.platform hpl
  obtain ⟨iM, hffM⟩ := Y.msg
  obtain ⟨tyC, dC, hdC, hdnC⟩ := Cond.laysAt hfound hk Y.cause (hW (.lays cls Bundle.tN "cause" "Ljava/lang/Throwable;") (by simp [exW]))
  obtain ⟨tyS, dS, hdS, hdnS⟩ := Cond.laysAt hfound hk Y.stack (hW (.lays cls Bundle.tN "stackTrace" Bundle.steD) (by simp [exW]))
  obtain ⟨tyP, dP, hdP, hdnP⟩ := Cond.laysAt hfound hk Y.supp (hW (.lays cls Bundle.tN "suppressedExceptions" Bundle.listD) (by simp [exW]))
  obtain ⟨tyM, dM, hdM, hdnM⟩ := Cond.laysAt hfound hk hffM (hW (.lays cls Bundle.tN "detailMessage" "Ljava/lang/String;") (by simp [exW]))
  obtain ⟨tyB, dB, hdB, hdnB⟩ := Cond.laysAt hfound hk hffB (hW (.lays cls Bundle.tN "backtrace" "Ljava/lang/Object;") (by simp [exW]))
  have bC := Cond.laysApart hdB hdC hdnB hdnC (by rw [hnB, Y.causeName]; decide)
  have bS := Cond.laysApart hdB hdS hdnB hdnS (by rw [hnB, Y.stackName]; decide)
  have bP := Cond.laysApart hdB hdP hdnB hdnP (by rw [hnB, Y.suppName]; decide)
  have sP := Cond.laysApart hdS hdP hdnS hdnP (by rw [Y.stackName, Y.suppName]; decide)
  have tkC : ∀ v : Value, v.isRef = true → Takes s (freshCell cX kX) T.fCause v := fun v hv => Takes.of_laid hk hord tyC (by rw [Y.causeType]; exact fits_refV_object _ ⟨v, hv⟩)
  have tkS : ∀ v : Value, v.isRef = true → Takes s (freshCell cX kX) T.fStack v := fun v hv => Takes.of_laid hk hord tyS (by rw [Y.stackType]; exact fits_refV_array _ ⟨v, hv⟩)
  have tkP : ∀ v : Value, v.isRef = true → Takes s (freshCell cX kX) T.fSupp v := fun v hv => Takes.of_laid hk hord tyP (by rw [Y.suppType]; exact fits_refV_object _ ⟨v, hv⟩)
  have tkM : ∀ v : Value, v.isRef = true → Takes s (freshCell cX kX) T.fMsg v := fun v hv => Takes.of_laid hk hord tyM (by rw [Y.msgType]; exact fits_refV_object _ ⟨v, hv⟩)
  have hfr : (freshCell cX kX).vm = .none := rfl
  have hlC := (tkC _ hu0).1
  have hlS := (tkS _ hu0).1
  have hlP := (tkP _ hu0).1
  refine lv_aload_n (k := 0) hx hb d0 rfl hl ?_
  refine W.objInit hx hb hown (hW (.methodLink Bundle.tN 1 Bundle.oInit) (by simp [exW])) (hW (.instanceMethod Bundle.oInit) (by simp [exW])) (hW (.code Bundle.oInit ⟨#[0xb1]⟩ 1 none) (by simp [exW])) (g := F0 m 1 ls [.ref a]) rfl hsize rfl d1 (by omega) (by show 2 * 0 + 0 + 12 ≤ R.locals; omega) ?_
  show W p l e R s m args below meth c s.heap [] cells slots Q (F0 m 4 ls [])
  refine lv_aload_n (k := 0) hx hb d4 rfl hl ?_
  refine lv_aload_n (k := 0) hx hb d5 rfl hl ?_
  refine W.putf hx hb hown (hW (.fieldLink Bundle.tN 7 Bundle.tN "cause" "Ljava/lang/Throwable;") (by simp [exW])) Y.cause L.causeInstance (Or.inr ⟨hmc, hname⟩) (a := a) (cell := freshCell cX kX) (v := .ref a) hcell (by simp) (tkC (.ref a) rfl).1 (narrow_ref _ _) (tkC (.ref a) rfl).2 (g := F0 m 6 ls [.ref a, .ref a]) rfl (rest := []) rfl d6 ?_
  generalize hC1 : (freshCell cX kX).setSlot T.fCause.slot (.ref a) = C1
  have hH1 : (s.heap.setIfInBounds a C1)[a]? = some C1 := ex_get hcell
  have hS1 : (s.heap.setIfInBounds a C1)[T.aS]? = some cellS := (ex_ne hneS).trans hcS
  refine lv_aload_n (k := 0) hx hb d9 rfl hl ?_
  refine W.gets hx hb hown (hW (.fieldLink Bundle.tN 13 Bundle.tN "UNASSIGNED_STACK" Bundle.steD) (by simp [exW])) Y.unassigned L.unassignedStatic L.initialized L.statics hS1 hknS hvU (g := F0 m 10 ls [.ref a]) rfl d10 ?_
  refine W.putf hx hb hown (hW (.fieldLink Bundle.tN 17 Bundle.tN "stackTrace" Bundle.steD) (by simp [exW])) Y.stack L.stackInstance (Or.inr ⟨hmc, hname⟩) (a := a) (cell := C1) (v := u0.v) hH1 (by rw [← hC1]; simp [Cell.setSlot]) (by rw [← hC1]; simpa [Cell.setSlot] using hlS) (narrow_isRef _ hu0) (by rw [← hC1]; exact (tkS _ hu0).2) (g := F0 m 13 ls [u0.v, .ref a]) rfl (rest := []) rfl d13 ?_
  generalize hC3 : C1.setSlot T.fStack.slot u0.v = C3
  have hH3 : ((s.heap.setIfInBounds a C1).setIfInBounds a C3)[a]? = some C3 := ex_get hH1
  have hS3 : ((s.heap.setIfInBounds a C1).setIfInBounds a C3)[T.aS]? = some cellS := (ex_ne hneS).trans hS1
  refine lv_aload_n (k := 0) hx hb d16 rfl hl ?_
  refine W.gets hx hb hown (hW (.fieldLink Bundle.tN 20 Bundle.tN "SUPPRESSED_SENTINEL" Bundle.listD) (by simp [exW])) Y.sentinel L.sentinelStatic L.initialized L.statics hS3 hknS hvSen (g := F0 m 17 ls [.ref a]) rfl d17 ?_
  refine W.putf hx hb hown (hW (.fieldLink Bundle.tN 24 Bundle.tN "suppressedExceptions" Bundle.listD) (by simp [exW])) Y.supp L.suppInstance (Or.inr ⟨hmc, hname⟩) (a := a) (cell := C3) (v := sen.v) hH3 (by rw [← hC3, ← hC1]; simp [Cell.setSlot]) (by rw [← hC3, ← hC1]; simpa [Cell.setSlot] using hlP) (narrow_isRef _ hse) (by rw [← hC3, ← hC1]; exact (tkP _ hse).2) (g := F0 m 20 ls [sen.v, .ref a]) rfl (rest := []) rfl d20 ?_
  generalize hC5 : C3.setSlot T.fSupp.slot sen.v = C5
  have hH5 : (((s.heap.setIfInBounds a C1).setIfInBounds a C3).setIfInBounds a C5)[a]? = some C5 := ex_get hH3
  have hS5 : (((s.heap.setIfInBounds a C1).setIfInBounds a C3).setIfInBounds a C5)[T.aS]? = some cellS := (ex_ne hneS).trans hS3
  have hK5 : ∀ q, q ≠ a → (((s.heap.setIfInBounds a C1).setIfInBounds a C3).setIfInBounds a C5)[q]? = s.heap[q]? := fun q hq => by rw [ex_ne hq, ex_ne hq, ex_ne hq]
  have hZ5 : (((s.heap.setIfInBounds a C1).setIfInBounds a C3).setIfInBounds a C5).size = s.heap.size := by simp
  generalize ((s.heap.setIfInBounds a C1).setIfInBounds a C3).setIfInBounds a C5 = H5 at hH5 hS5 hK5 hZ5
  have c5c : C5.cls = cX := by rw [← hC5, ← hC3, ← hC1]; rfl
  have c5v : C5.vm = .none := by rw [← hC5, ← hC3, ← hC1]; rfl
  have c5m : C5.monitor = (freshCell cX kX).monitor := by rw [← hC5, ← hC3, ← hC1]; rfl
  have c5z : C5.slots.size = (freshCell cX kX).slots.size := by rw [← hC5, ← hC3, ← hC1]; simp [Cell.setSlot]
  have tk5 : ∀ {f : Field} {v : Value}, Takes s (freshCell cX kX) f v → Takes s C5 f v := fun h' => ⟨by rw [c5z]; exact h'.1, by rw [c5c, c5v]; exact h'.2⟩
  refine lv_aload_n (k := 0) hx hb d23 rfl hl ?_
  refine W.exFill (T := T) (a := a) (cell := C5) (cellS := cellS) (u0 := u0) hx hb htr L hmc hH5 (fun _ => by rw [c5v]; simp) (by rw [c5v]; simp) (by rw [c5m]) (by rw [c5m]) ?_ (by rw [c5c]; exact hsel0) (by rw [c5c]; exact hselF) hS5 hneS hknS hvU (tk5 (tkS _ hu0)) ⟨{ ci198 := ci198, i198 := i198, fBack := fB }, ⟨hk198, hg198, ha198, hsB⟩, ?_⟩ hsize d24 h1 (by show 0 + 42 ≤ R.locals; omega) ?_
  · rw [← hC5, ← hC3, ← hC1]
    simp [Cell.setSlot, Array.getElem?_setIfInBounds, sP, Ne.symm sP] at hlS ⊢
    exact hlS
  · have := fresh_default (c := cX) tyB
    rw [htB] at this
    rw [← hC5, ← hC3, ← hC1]
    simpa [Cell.setSlot, Array.getElem?_setIfInBounds, bC, bS, bP, bC.symm, bS.symm, bP.symm, defaultValue] using this
  refine lv_pop hx hb d27 rfl ?_
  refine kk H5 C5 _ hH5 c5c c5v ⟨_, _, _, _, hffM, L.msgInstance, Y.found, fun v hv => ⟨narrow_isRef _ hv, (tk5 (tkM v hv)).1, (tk5 (tkM v hv)).2⟩⟩ ⟨_, _, _, _, Y.cause, L.causeInstance, Y.found, fun v hv => ⟨narrow_isRef _ hv, (tk5 (tkC v hv)).1, (tk5 (tkC v hv)).2⟩⟩ hZ5 hK5 fun y hy => ?_
  simp only [List.mem_append, List.mem_cons, List.not_mem_nil, or_false, false_or] at hy
  rcases hy with (hy | hy) | hy <;> rw [hy]
end
