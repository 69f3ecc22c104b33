/-! CORE 11: invokespecial of an interface's own method (Interface.super.m()) -/
set_option maxRecDepth 100000
theorem Op.qs_ready {Q : Unit → Pre} {E : CtlPost} {e : Env} {d : Bool} {acts : List Action} {s : State} {f : JFrame} {index ci a : Nat} {nt : Nat} {r0 m : MethodId} {named : ClassId} {ck nk mk : Class} {cf : ClassFile} {r meth : Method} {args rest : List Value} {cell : Cell} {kcell : Class}
    (hs : s.topJava?.isSome) (hr : s.vm.methodReady f.method.cls index r0) (hrm : s.vm.method? r0 = some r)
    (hck : s.vm.classes[f.method.cls]? = some ck) (hcf : ck.cf = some cf) (hc : cf.constantPool[index]? = some (.interfaceMethodref ci nt))
    (hnamed : s.vm.classReady f.method.cls ci named) (hnk : s.vm.classes[named]? = some nk)
    (hinit : (r.name == "<init>" && r0.cls != named) = false) (hstatic : r.isStatic = false)
    (hfound : lookupSpecial s.vm (if r.name != "<init>" && !nk.isInterface && (named != f.method.cls && s.vm.isSubclass f.method.cls named) then ck.super.getD named else named)
      r.name r.desc = .method m) (hsame : m = r0)
    (hiface : ck.isInterface = false)
    (hm : s.vm.method? m = some meth) (hmk : s.vm.classes[m.cls]? = some mk) (habs : meth.isAbstract = false)
    (hlen : args.length = r.sig.parameters.length) (hstack : f.stack = args.reverse ++ .ref a :: rest)
    (hcell : s.heap[a]? = some cell) (hobj : ∀ c, cell.vm ≠ .statics c) (hkcell : s.vm.classes[cell.cls]? = some kcell) :
    Sem.wp (invokespecial.sem index) Q E e d acts (s.setTop f) ↔
      E (.invoke m (.ref a :: args).toArray) acts (s.setTop { f with stack := rest }) := by
  subst hsame
  simp only [invokespecial.sem, Sem.wp_bind', W.resolveMethodAt_ready (State.method?_setTop f hs) hr]
  simp only [W.theMethod, State.vm_setTop, hrm, Option.some.injEq, exists_eq_left', Jvm.refClassAt, Jvm.constantAt, Sem.wp_bind', W.currentClass, W.theClass,
    State.method?_setTop f hs, hck, hcf, Option.bind_some, hc, Sem.wp_pure', W.resolveClassAt_ready (State.method?_setTop f hs) hnamed]
  simp only [W.ite, hinit, hstatic, Bool.false_eq_true, if_false, Sem.wp_bind', W.theClass, State.vm_setTop, hck, hnk, Option.some.injEq, exists_eq_left', W.look, hfound,
    bne_self_eq_false, Sem.wp_pure', Jvm.popArgs, ← hlen, popN_top hs hstack]
  simp [hiface] at hfound
  simp [hs, hcell, hobj, hkcell, hck, hiface, hm, habs, hmk, hfound, popN_top hs hstack]
theorem qs_step {p : Program} {l : Launch} {e : Env} {R : Room} {s : State} {m : MethodId} {args : Array Value} {below : List Frame} {meth : Method} {c : Code} {T : State} {locs : List Loc} {cells slots : Nat} (X : Stand p l e R s m args below meth c T locs cells slots) (hexec : p.tables.exec = Jvm.exec)
    {own : String} {index : Nat} {x : MethodName} (hown : s.vm.findClass own = some m.cls) (hlink : (Cond.methodLink own index x).before args s = true)
    {r0 : MethodId} {r : Method} (hn : s.methodNamed? x = some r0) (hrm : s.vm.method? r0 = some r) (hstatic : r.isStatic = false) (habs : r.isAbstract = false) (hni : x.name ≠ "<init>")
    {ki : Class} (hki : s.vm.classes[r0.cls]? = some ki) (hii : ki.isInterface = true) {dk0 : Class} (hd0 : s.vm.classes[m.cls]? = some dk0) (hdi : dk0.isInterface = false)
    (hx : x.cls ≠ "java/lang/invoke/MethodHandle" ∧ x.cls ≠ "java/lang/invoke/VarHandle")
    {a : Addr} {cell : Cell} {kcell : Class} (hcell : T.heap[a]? = some cell) (hobj : ∀ c, cell.vm ≠ .statics c) (hkcell : s.vm.classes[cell.cls]? = some kcell)
    {g : JFrame} (hg : g.method = m) {argsL rest : List Value} (hlen : argsL.length = r.sig.parameters.length) (hstack : g.stack = argsL.reverse ++ .ref a :: rest)
    (hdg : decode c.code g.pc = .ok (.invokespecial index, 3)) :
    ∃ vm', Stand p l e R s m args below meth c (T.setVm vm') locs cells slots ∧
      ∀ target, (∀ acts, Steps p.tables e below (doInvoke e ((T.setVm vm').setTop { g with stack := rest }) acts r0 (.ref a :: argsL).toArray).1 target) → Steps p.tables e below (T.setTop g) target := by
  have hpl : e.platform.magicAccessors = ({} : Platform).magicAccessors := by rw [X.admits.platform]
  obtain ⟨ci, hl, hright⟩ := Cond.methodLink_spec hown hn hlink e.platform hpl
  obtain ⟨kx, hkx, hnx⟩ := className_of_methodNamed hn
  obtain ⟨hrn, hrd⟩ := name_of_methodNamed hn hrm
  have hE : s.MethodEntry e T.vm m.cls index r0 ci := State.methodEntry X.warmed hl hright fun k hk => by
    cases hkx.symm.trans hk
    rw [hnx]; exact hx
  obtain ⟨dk, cfile, nt, _, _, via, ck, _, hd, hcf, hcp, -, -, -, hck, hvia, -⟩ := hl.here
  cases hck.symm.trans hki
  cases hd0.symm.trans hd
  have hv : via = true := hvia.symm.trans hii
  subst hv
  have hcp' : cfile.constantPool[index]? = some (.interfaceMethodref ci nt) := by simpa using hcp
  have alike := hE.warmed.alike
  obtain ⟨dk₂, hdk₂, hres⟩ := hE.classReady
  obtain ⟨dk₃, hdk₃, hed⟩ := alike.2.2 _ _ hd
  cases hdk₂.symm.trans hdk₃
  obtain ⟨ck₂, hck₂, hec⟩ := alike.2.2 _ _ hck
  obtain ⟨kcell₂, hkcell₂, -⟩ := alike.2.2 _ _ hkcell
  have hdecl : ki.findMethod x.name x.desc = some r0.idx := by
    have hc := findClass_of_methodNamed hn
    have h' := hn
    simp only [State.methodNamed?, hc, hki, Option.bind_eq_bind, Option.bind_some, Option.bind_eq_some_iff, Option.pure_def, Option.some.injEq] at h'
    obtain ⟨i, hi, hmi⟩ := h'
    rw [← hmi]; exact hi
  have hfound0 : lookupSpecial s.vm r0.cls r.name r.desc = .method r0 := by
    unfold lookupSpecial
    rw [hrn, hrd, hki]
    simp [hdecl, hrm, hstatic]
  refine ⟨T.vm.called m.cls ci index r0, X.noted hE.warmed, fun target hrest => ?_⟩
  subst hg
  have hI : ck₂.isInterface = true := by rw [hec]; exact hii
  jvm_step X.here [hexec, hdg, Op.invokespecial.wp_cold (e := e) (s := T) (s₀ := s) (f := g) X.here.top hE hd hcf (Or.inr hcp') hrm,
    Op.qs_ready (e := e) (s := T.setVm (T.vm.called g.method.cls ci index r0)) (f := g) (r0 := r0) (m := r0) (r := r) (meth := r) (args := argsL) (rest := rest) (cell := cell) (kcell := kcell₂) (ck := dk₂) (nk := ck₂) (mk := ck₂) (cf := cfile) (ci := ci) (nt := nt) (named := r0.cls)
      X.here.top hE.ready (by show (T.vm.called g.method.cls ci index r0).method? r0 = some r; rw [alike.method?]; exact hrm) hdk₂ (by rw [hed]; exact hcf) hcp' ⟨dk₂, hdk₂, hres⟩ hck₂ (by rw [hrn]; simp [hni]) hstatic
      (by
        rw [hI]
        simp only [Bool.not_true, Bool.and_false, Bool.false_and, Bool.false_eq_true, if_false]
        show lookupSpecial (T.vm.called g.method.cls ci index r0) r0.cls r.name r.desc = .method r0
        rw [alike.lookupSpecial]
        exact hfound0) rfl (by rw [hed]; exact hdi) (by show (T.vm.called g.method.cls ci index r0).method? r0 = some r; rw [alike.method?]; exact hrm) hck₂ habs hlen hstack hcell hobj hkcell₂]
  exact hrest
