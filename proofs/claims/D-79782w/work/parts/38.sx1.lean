/-! SX 1: fillInStackTrace() where no traces are kept: the heap stays as it is -/
set_option maxRecDepth 100000
section
variable {p : Program} {l : Launch} {e : Env} {R : Room} {s : State} {m : MethodId} {args : Array Value} {below : List Frame} {meth : Method} {c : Code}
theorem ex_room {V : State} {locs : List Loc} {cells slots : Nat} (X : Stand p l e R s m args below meth c V locs cells slots) {g : JFrame} {mF : MethodId} {a : Addr} {cell : Cell} (hsize : g.locals.size = c.maxLocals) (h1 : 2 < R.frames) (h2 : 2 * g.monitorRoom + (g.stack.map fun v => v.category).sum + 42 ≤ R.locals) :
    e.platform.stackFull ((((fillInside V g mF a cell).setTop (fillJ mF a 16 [])).threads[((fillInside V g mF a cell).setTop (fillJ mF a 16 [])).cur]?).getD { frames := [] }) ((fillInside V g mF a cell).setTop (fillJ mF a 16 [])).frames (nativeFrameWords "java/lang/Throwable" "fillInStackTrace" 2) = false := by
  have k1 := X.framesAbove h1
  have k2 := X.stackAbove hsize (K := 42) h2
  have htop := X.here.top
  obtain ⟨g₀, hg⟩ := Option.isSome_iff_exists.mp htop
  obtain ⟨tl, htl⟩ := State.topJava?_eq_some.mp hg
  have hlen : V.frames.length = (Frame.java g :: V.frames.tail).length := by rw [htl]; rfl
  have htopE : (V.setCell a (cell.withEntry V.cur)).topJava?.isSome := htop
  have hfF : (fillInside V g mF a cell).frames = .java (entryFrameSync mF #[.ref a] 1 a) :: .java g :: V.frames.tail := frames_entered (g := g) htopE _
  have htopF : (fillInside V g mF a cell).topJava?.isSome := by rw [State.topJava?_of_frames hfF]; rfl
  have hlimF : e.platform.stackLimits (fillInside V g mF a cell).me = e.platform.stackLimits V.me := by
    rw [State.stackLimits_pushFrame, State.stackLimits_setTop _ htopE]
    rfl
  have hw : (stackUse [Frame.java (fillJ mF a 16 [])]).2 = 14 := by
    rw [stackUse_java, stackUse_nil]
    simp [operandWords]
  exact _root_.Jvm.roomAbove (pushed := [.java (fillJ mF a 16 [])]) (base := .java g :: V.frames.tail) (free := 42) (lim := e.platform.stackLimits V.me) (State.frames_setTop _ hfF) (by rw [State.stackLimits_setTop _ htopF]; exact hlimF) (by rw [← hlen]; simp only [List.length_cons, List.length_nil]; omega) k2 (by rw [hw]; decide)
theorem set_self {H : Heap} {a : Addr} {cell : Cell} (h : H[a]? = some cell) : H.setIfInBounds a cell = H := by
  apply Array.ext_getElem?
  intro i
  rw [Array.getElem?_setIfInBounds]
  split
  · next e =>
    subst e
    split
    · exact h.symm
    · next q => rw [Array.getElem?_eq_none (by omega)]
  · rfl
/-- invokevirtual fillInStackTrace() -/
theorem W.exFill {H : Heap} {locs : List Loc} {cells slots : Nat} {Q : State → Prop} {cc : ByteArray} {pc : Nat} {ls : Array Slot} {rest : List Value} {T : ThrowableC} {a : Addr} {cell cellS : Cell} {u0 : RefV} (hx : p.tables.exec = Jvm.exec) (hb : c.code = cc) (htr : l.stackTraces = false) (L : T.Links e.platform s) (hm : m.cls = T.cT) (hcell : H[a]? = some cell) (hobj : ∀ k, cell.vm ≠ .statics k) (hknown : cell.vm ≠ .unknown) (hfree : cell.monitor.owner = none) (hcount : cell.monitor.count = 0) (hvS : cell.slots[T.fStack.slot]? = some u0.v) (hsel0 : selectMethod e.platform s.vm cell.cls T.fill0 = .method T.fill0) (hselF : selectMethod e.platform s.vm cell.cls T.fill = .method T.fill) (hcellS : H[T.aS]? = some cellS) (hneS : T.aS ≠ a) (hknownS : cellS.vm ≠ .unknown) (hvU : cellS.slots[T.fUnassigned.slot]? = some u0.v) (htS : Takes s cell T.fStack u0.v) (hback : ∃ B : BackC, B.Links T e.platform s ∧ cell.slots[B.fBack.slot]? = some .null)
    (hsize : ls.size = c.maxLocals) (hdg : decode cc pc = .ok (.invokevirtual 27, 3)) (h1 : 2 < R.frames) (h2 : (rest.map fun v => v.category).sum + 42 ≤ R.locals)
    (kk : W p l e R s m args below meth c H locs cells slots Q (F0 m (pc + 3) ls (.ref a :: rest))) : W p l e R s m args below meth c H locs cells slots Q (F0 m pc ls (.ref a :: rest)) := by
  intro T' hT X
  subst hT
  have htr' : e.platform.stackTraces = false := (show e.platform.stackTraces = l.stackTraces by rw [X.admits.platform]).trans htr
  have hdg' : decode c.code pc = .ok (.invokevirtual 27, 3) := by rw [hb]; exact hdg
  have hmg : (F0 m pc ls (.ref a :: rest)).method.cls = T.cT := hm
  obtain ⟨vm1, hW1, st1⟩ := Steps.invokeVirtualCold (tb := p.tables) (e := e) (s₀ := s) (U := T') (f := F0 m pc ls (.ref a :: rest)) (args := []) (rest := rest) (a := a) (cell := cell) (r := T.fill) (m := T.fill) X.here hx hdg' X.warmed (by rw [hmg]; exact L.mlink27) (by rw [hmg]; exact L.mright27) L.notHandle (by rw [hmg]; exact L.cls) L.file L.pool27 L.cls L.notInterface (L.method L.fillAt) L.fillStatic (by rw [L.fillParams]; rfl) rfl hcell hobj hselF (L.method L.fillAt) L.fillAbstract L.cls L.notInterface
  have X1 := X.noted hW1
  have hsz : (F0 m pc ls rest).locals.size = c.maxLocals := hsize
  have hr2 : 2 * (F0 m pc ls rest).monitorRoom + ((F0 m pc ls rest).stack.map fun v => v.category).sum + 42 ≤ R.locals := by
    show 2 * 0 + (rest.map fun v => v.category).sum + 42 ≤ R.locals
    omega
  obtain ⟨B, LB, hvB⟩ := hback
  obtain ⟨vm2, hW2, st2⟩ := Steps.fillColdAnyV p (e := e) (s₀ := s) (V := T'.setVm vm1) (g := F0 m pc ls rest) (c := c) (self := a) X1.here hx T L hW1 (Nn := fun u => u) heapOnly_id (fun _ _ => rfl) (fun _ => rfl) (fun u x y => setCell_twice _ _ _ _) (cell := cell) (cellS := cellS) (cN := cell.withEntry (T'.setVm vm1).cur) (u0 := u0) (ig := .invokevirtual 27) (len := 3) [] hcell hobj hknown (Or.inl hfree) hvS hsel0 hcellS hneS hknownS hvU (fun _ hu => hu) (fun _ hu => hu) rfl rfl rfl rfl htS hdg'
    (fun _ vm' hW' hA' t' hrest => L.nativeOff p htr' hA' hW' (ex_room (X1.noted hW') hsz h1 hr2) hrest) (X1.notFull hsz (by omega) (by omega)) ⟨B, LB, hvB, fun _ _ => rfl⟩
  have e1 : ((cell.withEntry (T'.setVm vm1).cur).setSlot T.fStack.slot u0.v).left = cell := by
    rw [← Cell.withEntry_setSlot, Cell.setSlot_same hvS, Cell.left_withEntry _ hfree hcount]
  obtain ⟨t, a1, b1⟩ := kk (T'.setVm vm2) rfl (X.noted hW2)
  refine ⟨t, st1 t (st2 t ?_), b1⟩
  have e2 : ((T'.setVm vm1).setVm vm2).setCell a ((cell.withEntry (T'.setVm vm1).cur).setSlot T.fStack.slot u0.v).left = T'.setVm vm2 := by
    rw [e1, State.setVm_twice]
    show { (T'.setVm vm2) with heap := T'.heap.setIfInBounds a cell } = T'.setVm vm2
    rw [set_self hcell]
    rfl
  show Steps p.tables e below ((((T'.setVm vm1).setVm vm2).setCell a ((cell.withEntry (T'.setVm vm1).cur).setSlot T.fStack.slot u0.v).left).setTop _) t
  rw [e2]
  exact a1
end
