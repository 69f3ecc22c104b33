/-! CORE 12: a call of an interface's own method out of a class of it (Interface.super.m()) -/
set_option maxRecDepth 100000
section
variable {p : Program} {l : Launch} {e : Env} {R : Room} {s : State} {m : MethodId} {args : Array Value} {below : List Frame} {meth : Method} {c : Code} {H : Heap} {locs : List Loc} {cells slots : Nat}
theorem qs_call {T : State} (X : Stand p l e R s m args below meth c T locs cells slots) (hexec : p.tables.exec = Jvm.exec) {own sup : String} {index : Nat} {y : MethodName}
    (hown : s.vm.findClass own = some m.cls) (hlink : (Cond.methodLink own index y).before args s = true) (hface : va_Nw (.interfaceMethod y.cls y.cls y.name y.desc) s) (hsup : (Cond.superclass own sup).before args s = true)
    (hinst : (Cond.instanceMethod y).before args s = true) {bytes : ByteArray} {maxL : Nat} {ret : Option FieldType} (hcode : (Cond.code y bytes maxL ret).before args s = true) (hno : y.name ≠ "<init>") (hxx : y.cls ≠ "java/lang/invoke/MethodHandle" ∧ y.cls ≠ "java/lang/invoke/VarHandle")
    {W : Nat} {Pre : Pt → Array Value → Prop} {Post : Pt → Array Value → Option Value → Pt → Prop} {PostX : Pt → Array Value → Addr → Pt → Prop} (hK : vx_Back l R p e below s args y 3 W Pre Post PostX)
    {b : Addr} {cellB : Cell} {kB : Class} (hcell : T.heap[b]? = some cellB) (hobj : cellB.vm.isStatics = false) (hkB : s.vm.classes[cellB.cls]? = some kB)
    {g : JFrame} (hg : g.method = m) (hsize : g.locals.size = c.maxLocals) {argsL rest : List Value} (hlen : ∀ sig, parseMethodDescriptor y.desc = some sig → argsL.length = sig.parameters.length)
    (hstack : g.stack = argsL.reverse ++ .ref b :: rest) (hW : 2 * g.monitorRoom + (rest.map fun v => v.category).sum ≤ W) (hdg : decode c.code g.pc = .ok (.invokespecial index, 3))
    (hpre : ∀ vm₁, s.WarmedH vm₁ → Pre ⟨T.setVm vm₁, locs, cells, slots⟩ (Value.ref b :: argsL).toArray) :
    (∃ (v : Option Value) (vm₁ : Vm) (B : Pt), s.WarmedH vm₁ ∧ Stand p l e R s m args below meth c B.U B.locs B.cells B.slots ∧ Post ⟨T.setVm vm₁, locs, cells, slots⟩ (Value.ref b :: argsL).toArray v B ∧
      ∀ target, Steps p.tables e below (B.U.setTop { g with pc := g.pc + 3, stack := v.toList ++ rest }) target → Steps p.tables e below (T.setTop g) target) ∨
    (∃ (q : Addr) (vm₁ : Vm) (B : Pt), s.WarmedH vm₁ ∧ Stand p l e R s m args below meth c B.U B.locs B.cells B.slots ∧ PostX ⟨T.setVm vm₁, locs, cells, slots⟩ (Value.ref b :: argsL).toArray q B ∧
      Steps p.tables e below (T.setTop g) ((B.U.setTop { g with stack := rest }).pushFrame (.throwing q))) := by
  obtain ⟨mk, methM, hnamed, hmethM, hstM, habM⟩ := Cond.instanceMethod_spec hinst
  obtain ⟨methM', cM, hmethM', -, -, -, -, -, -, hsigM⟩ := Cond.code_spec hnamed hcode
  cases hmethM.symm.trans hmethM'
  obtain ⟨ps, dk, kp, hps, hdk, hkp, hsuper, -, -, hnid⟩ := Cond.superclass_spec hown hsup
  obtain ⟨cL, kL, r1, hcL, hkL, hiL, hfoundL, hn1⟩ := Cond.interfaceMethod_spec hface
  have hn : s.methodNamed? ⟨y.cls, y.name, y.desc⟩ = some mk := hnamed
  have hr0cls : mk.cls = cL := Option.some.inj ((findClass_of_methodNamed hnamed).symm.trans hcL)
  obtain ⟨vm₁, X₁, hstep₁⟩ := qs_step X hexec hown hlink hn hmethM hstM habM hno (by rw [hr0cls]; exact hkL) hiL hdk hnid hxx (a := b) (cell := cellB) hcell
    (fun z h => by rw [h] at hobj; cases hobj) hkB (g := g) hg (argsL := argsL) (rest := rest) (hlen _ hsigM) hstack hdg
  rcases hK m meth c ⟨T.setVm vm₁, locs, cells, slots⟩ { g with stack := rest } (.invokespecial index) mk (Value.ref b :: argsL).toArray X₁ hg hsize hdg hW (X₁.named hnamed) (hpre vm₁ X₁.warmed) with ⟨v, B, X', hpost, hsteps⟩ | ⟨q, B, X', hpost, hsteps⟩
  · exact Or.inl ⟨v, vm₁, B, X₁.warmed, X', hpost, fun target h => hstep₁ _ fun acts => by rw [doInvoke_state]; exact hsteps.trans h⟩
  · exact Or.inr ⟨q, vm₁, B, X₁.warmed, X', hpost, hstep₁ _ fun acts => by rw [doInvoke_state]; exact hsteps⟩
theorem qs_run {y : MethodName} {bytes cc : ByteArray} {maxL nL mc ms n index : Nat} {ret : Option FieldType} {ws : List Cond} {rm : Room} {Pc : Array Value → State → Prop} {Qc : Array Value → State → Outcome → State → Prop} {XC : String → State → State → Prop} {free : Addr → Prop} {Ts : List Cond} {own sup C : String} {cC : ClassId} {b : Addr} {As rest : List Value} {g : JFrame}
    (hat : ClassAt s C cC) (S : CallFix p m c cc nL s args Ts own) (hM : vx_Met l y ws rm Pc Qc XC mc ms free)
    (bk : rm.cells = mc ∧ rm.slots = ms ∧ rm.frames + 1 ≤ R.frames ∧ 8 + (maxL + 11) + rm.locals ≤ R.locals ∧ (∀ w ∈ ws, ∀ (a' : Array Value) (U : State), s.WarmedH U.vm → w.before a' U = true) ∧ Cond.code y bytes maxL ret ∈ ws)
    (hlink : (Cond.methodLink own index y).before args s = true) (hface : va_Nw (.interfaceMethod y.cls y.cls y.name y.desc) s) (hsup : (Cond.superclass own sup).before args s = true) (hinst : (Cond.instanceMethod y).before args s = true) (hcode : (Cond.code y bytes maxL ret).before args s = true) (hini : (Cond.initialized y.cls).before args s = true) (hno : y.name ≠ "<init>") (hxx : y.cls ≠ "java/lang/invoke/MethodHandle" ∧ y.cls ≠ "java/lang/invoke/VarHandle") (hlen : ∀ sig, parseMethodDescriptor y.desc = some sig → n = sig.parameters.length)
    (hp : PreV s H C b Pc As)
    (hg : g.method = m) (hn : As.length = n) (hsize : g.locals.size = nL) (hstack : g.stack = As.reverse ++ .ref b :: rest) (hW : 2 * g.monitorRoom + (rest.map fun v => v.category).sum ≤ 8) (hdg : decode cc g.pc = .ok (.invokespecial index, 3)) (hf : cells + mc ≤ R.cells ∧ slots + ms ≤ R.slots) :
    vx_Run p l e R s m args below meth c H locs cells slots mc ms g rest (Qc (Value.ref b :: As).toArray) XC free := by
  obtain ⟨hrc, hrs, hfr, hlo, hws, hcw⟩ := bk
  have hK : vx_Back l R p e below s args y 3 8 (PreOf R mc ms Pc) (PostOf Qc mc ms free) (vx_Post XC mc ms free) := vx_back (bytes := bytes) (maxL := maxL) (ret := ret) hM hp.1 hrc hrs hfr hlo hws hcw (fun a' U hW => word_at hW (Or.inl (by first | rfl | simp [Cond.onTables, Cond.keeps, Cond.steady])) hini)
  obtain ⟨hx, hb, hml, ho, -⟩ := S
  obtain ⟨-, ⟨cellB, hcB, hoB, hclB⟩, hPc⟩ := hp
  obtain ⟨hfc, kB, hkB, -⟩ := hat
  cases hfc.symm.trans hclB
  intro T hT X
  rcases qs_call X hx ho hlink hface hsup hinst hcode hno hxx hK (by rw [hT]; exact hcB) hoB hkB hg (hsize.trans hml.symm) (argsL := As) (rest := rest) (fun sig h => hn.trans (hlen sig h)) hstack hW (by rw [hb]; exact hdg)
    (fun vm₁ hW₁ => ⟨hf.1, hf.2, hPc (T.setVm vm₁) hT hW₁⟩) with ⟨v, vm₁, ⟨U', l2, c2, s2⟩, hW₁, X', ⟨g', mk, t, L, e1, e2, hq, h1, hL, h2, h3⟩, st⟩ | ⟨q, vm₁, ⟨U', l2, c2, s2⟩, hW₁, X', ⟨g', mk, t, L, E, ce, e1, e2, hq, hce, hcv, hcl, h1, hL, h2, h3⟩, st⟩
  · dsimp only [Pt.U, Pt.locs, Pt.cells, Pt.slots] at X' e1 e2 h1 h2 h3 st
    subst h1; subst h2; subst h3
    exact Or.inl ⟨v, (T.setVm vm₁).calling g' mk (Value.ref b :: As).toArray, t, U', L, hT, X', hL, e1, e2, hq, st⟩
  · dsimp only [Pt.U, Pt.locs, Pt.cells, Pt.slots] at X' e1 e2 h1 h2 h3 st hcl
    subst h1; subst h2; subst h3
    exact Or.inr ⟨q, (T.setVm vm₁).calling g' mk (Value.ref b :: As).toArray, t, U', L, E, ce, hT, X', hL, e1, e2, hq, hce, hcv, vx_cls hW₁ hcl, st⟩
end
section
variable {g : qh_G} {d c : Nat} {I : qh_I} {cc : ByteArray} {pc : Nat} {ls : List (Option Value)} {st : List Value} {τ : qh_H} {Q : qh_R → qh_H → Prop}
theorem qh_callSF {own sup : String} {J : qh_I} {n index ci b k : Nat} {As stk rest : List Value} {r : vw_C} (e : I.2.1 = cc) (ho : I.1.cls = own) (hJ : qh_M J n) (h0 : J.2.2.2.2 = []) (hni : J.1.name ≠ "<init>") (q1 : Cond.methodLink own index J.1 ∈ lw_all) (q5 : Cond.superclass own sup ∈ lw_all) (q2 : Cond.instanceMethod J.1 ∈ lw_all) (q4 : ∀ U, g.2.2.2.2 U → va_Nw (.interfaceMethod J.1.cls J.1.cls J.1.name J.1.desc) U) (hci : qh_cl[ci]? = some r) (hb : qh_V g τ r.1 b) (hn : As.length = n) (hs : stk = As.reverse ++ .ref b :: rest) (hw : (rest.map fun v => v.category).sum ≤ 8) (hd : decode cc pc = .ok (.invokespecial index, 3))
    (kk : qh_S g d k J (.ref b :: As) τ (qh_K1 g (d + 1) c I pc 3 ls rest Q)) : qh_wp g (d + 1) (c + k) I pc ls stk τ Q := by
  intro p e0 s m args below meth cd lsA ws H locs cells slots mc C hl hc hT hP hD hS h1 h2
  subst hs
  have hts := C.2.2.2.2.2.2.1
  have hJh : Cond.code J.1 J.2.1 J.2.2.1 J.2.2.2.1 ∈ lw_all := by rw [← qh_hd0 h0]; exact hJ.2.2.2.2.1
  have hG : GoodIn lw_all (Cond.code J.1 J.2.1 J.2.2.1 J.2.2.2.1 :: lw_all) := lw_meth hJh
  refine qh_after (k := k) (rest := rest) (qs_run (Ts := lw_all) (As := As) (rest := rest) (C := r.1) (cC := g.2.1.1 ci) (sup := sup) (bytes := J.2.1) (maxL := J.2.2.1) (ret := J.2.2.2.1) (n := n) (C.2.2.2.2.2.2.2.1.1 ci r hci).2 ⟨C.1, C.2.1.trans e, C.2.2.2.2.1, ho ▸ C.2.2.2.2.2.1, hts⟩ kk ?_ (hts _ q1) (q4 s C.2.2.2.2.2.2.2.2.1) (hts _ q5) (hts _ q2) (hts _ hJh) (hts _ hJ.2.2.2.1) hni ⟨hJ.1, hJ.2.1⟩ (fun sig h => ?_) ⟨qh_bl, hb s H ws locs C.2.2.2.2.2.2.2.1 C.2.2.2.2.2.2.2.2.1 hT hP hS, qh_at C hT hP hD hS⟩ rfl hn hl.1 rfl (lv_room hw) hd (qh_rc h1 h2)) C hl hc hS h1 h2
  · rw [qh_hd0 h0]
    exact ⟨rfl, rfl, (qh_rm hJ.2.2.2.2.2).1, (qh_rm hJ.2.2.2.2.2).2, pay_in hts hG, List.mem_cons_self⟩
  · have h3 := hJ.2.2.1
    rw [h] at h3
    exact (Option.some.inj h3).symm
end
