/-! CORE 9: calls of nest mates, through an interface, to an interface's own method, of methods with handlers; fields of nest mates -/
set_option maxRecDepth 100000
theorem qh_gF {own C : String} {idx : Nat} {x y : MethodName} {b : ByteArray} {L : Nat} {r : Option FieldType} (h1 : Cond.methodLink own idx x ∈ lw_all) (h2 : Cond.selects C x y ∈ lw_all) (h3 : Cond.instanceMethod y ∈ lw_all) (h4 : Cond.initialized y.cls ∈ lw_all) (h5 : Cond.code y b L r ∈ lw_all) : GoodIn lw_all (va_wsF own idx C x y (Cond.code y b L r :: lw_all)) := lw_good fun w hw => by
  unfold va_wsF at hw
  rcases List.mem_append.mp hw with q | q
  · simp only [List.mem_cons, List.not_mem_nil, or_false] at q
    rcases q with rfl | rfl | rfl | rfl <;> assumption
  · rcases List.mem_cons.mp q with rfl | q
    · exact h5
    · exact q
theorem qh_gU {own : String} {idx : Nat} {y : MethodName} {b : ByteArray} {L : Nat} {r : Option FieldType} (h1 : Cond.methodLink own idx y ∈ lw_all) (h2 : Cond.sameMethod y.cls y.cls y.name y.desc ∈ lw_all) (h3 : Cond.superclass own y.cls ∈ lw_all) (h4 : Cond.instanceMethod y ∈ lw_all) (h6 : Cond.initialized y.cls ∈ lw_all) (h5 : Cond.code y b L r ∈ lw_all) : GoodIn lw_all (va_wsSU own idx y (Cond.code y b L r :: lw_all)) := lw_good fun w hw => by
  unfold va_wsSU at hw
  rcases List.mem_append.mp hw with q | q
  · simp only [List.mem_cons, List.not_mem_nil, or_false] at q
    rcases q with rfl | rfl | rfl | rfl | rfl <;> assumption
  · rcases List.mem_cons.mp q with rfl | q
    · exact h5
    · exact q
section
variable {g : qh_G} {d c : Nat} {I : qh_I} {cc : ByteArray} {pc : Nat} {ls : List (Option Value)} {st : List Value} {τ : qh_H} {Q : qh_R → qh_H → Prop}
theorem qh_after5 {p : Program} {e0 : Env} {s : State} {m : MethodId} {args : Array Value} {below : List Frame} {meth : Method} {cd : Code} {lsA : Array Slot} {H : Heap} {locs : List Loc} {cells slots mc k : Nat} {st0 rest : List Value} {av : Array Value}
    (hr : vx_Run5 p g.1 e0 (qh_room d mc) s m args below meth cd H locs cells slots k k (F0 m pc lsA st0) rest (qh_Qc g (qh_K1 g d c I pc 5 ls rest Q) av) (qh_Xc g (qh_K1 g d c I pc 5 ls rest Q)) g.2.2.1)
    (C : qh_C g I p s m args meth cd) (hl : lv_has lsA I.2.2.1 (qh_lv 0 ls)) (hc : ∀ v : Value, some v ∈ ls → v.category = 1) (hS : va_S g.2.2.1 s.heap H locs) (h1 : cells + (c + k) ≤ mc) (h2 : slots + (c + k) ≤ mc) :
    W p g.1 e0 (qh_room d mc) s m args below meth cd H locs cells slots (vx_MQ below (qh_Qc g Q) (qh_Xc g Q) args s mc mc g.2.2.1) (F0 m pc lsA st0) := by
  intro T hT0 X
  rcases hr T hT0 X with ⟨v, st₀, t, T', L, h0, X', hL, e1, e2, ⟨v', τ', hv, hq, ⟨ws', hT', hP', hD'⟩, hF⟩, stp⟩ | ⟨q, st₀, t, T', L, E, ce, h0, X', hL, e1, e2, ⟨τ', hq, ⟨ws', hT', hP', hD'⟩, hF⟩, hce, hcv, hcl, stp⟩
  · cases hv
    obtain ⟨-, -, k3⟩ := vx_keep (A0 := g.2.2.1) (A1 := g.2.2.1) h0 e1 hS (fun q _ h => h) (fun q h => h) hL hF
    have hq : qh_wp g d c I (pc + 5) ls (v.toList ++ rest) τ' Q := hq
    obtain ⟨t2, a1, b1⟩ := hq p e0 s m args below meth cd lsA ws' T'.heap (locs ++ L) (cells + k) (slots + k) mc C hl hc hT' (by rw [e1]; exact hP') hD' k3 (by omega) (by omega) T' rfl X'
    exact ⟨t2, stp t2 a1, b1⟩
  · obtain ⟨-, -, k3⟩ := vx_keep (A0 := g.2.2.1) (A1 := g.2.2.1) h0 e1 hS (fun q _ h => h) (fun q h => h) hL hF
    have hq : qh_wx g d c I pc ls E τ' Q := hq
    obtain ⟨t2, a1, b1⟩ := hq p e0 s m args below meth cd lsA ws' T'.heap (locs ++ L) (cells + k) (slots + k) mc rest q ce C hl hc hT' (by rw [e1]; exact hP') hD' k3 (by omega) (by omega) (by rw [e1]; exact hce) hcv hcl T' rfl X'
    exact ⟨t2, stp.trans a1, b1⟩
theorem qh_callVN {own C host : String} {J : qh_I} {n index b k : Nat} {As stk rest : List Value} (e : I.2.1 = cc) (ho : I.1.cls = own) (hJ : qh_M J n) (h0 : J.2.2.2.2 = []) (q1 : ∀ U, g.2.2.2.2 U → va_Nw (.methodLinkNest own index J.1 host) U) (q2 : Cond.instanceMethod J.1 ∈ lw_all) (q3 : Cond.selects J.1.cls J.1 J.1 ∈ lw_all) (hrc : C = J.1.cls) (hb : qh_V g τ C b) (hn : As.length = n) (hs : stk = As.reverse ++ .ref b :: rest) (hw : (rest.map fun v => v.category).sum ≤ 8) (hd : decode cc pc = .ok (.invokevirtual index, 3))
    (kk : qh_S g d k J (.ref b :: As) τ (qh_K1 g (d + 1) c I pc 3 ls rest Q)) : qh_wp g (d + 1) (c + k) I pc ls stk τ Q := by
  intro p e0 s m args below meth cd lsA ws H locs cells slots mc C hl hc hT hP hD hS h1 h2
  subst hs; subst hrc
  have hts := C.2.2.2.2.2.2.1
  have hJh : Cond.code J.1 J.2.1 J.2.2.1 J.2.2.2.1 ∈ lw_all := by rw [← qh_hd0 h0]; exact hJ.2.2.2.2.1
  exact qh_after (k := k) (rest := rest) (vx_runVN (Ts := lw_all) (As := As) (rest := rest) (C := J.1.cls) (host := host) ⟨C.1, C.2.1.trans e, C.2.2.2.2.1, ho ▸ C.2.2.2.2.2.1, hts⟩ kk (by
    rw [qh_hd0 h0]
    exact ⟨va_cnB n hts (lw_meth hJh) rfl rfl rfl (q1 s C.2.2.2.2.2.2.2.2.1) (hts _ hJ.2.2.2.1) ⟨hJ.1, hJ.2.1, hJ.2.2.1⟩ (qh_rm hJ.2.2.2.2.2), hts _ q2, hts _ q3⟩) ⟨qh_bl, hb s H ws locs C.2.2.2.2.2.2.2.1 C.2.2.2.2.2.2.2.2.1 hT hP hS, qh_at C hT hP hD hS⟩ rfl hn hl.1 rfl (lv_room hw) hd (qh_rc h1 h2)) C hl hc hS h1 h2
theorem qh_callSN {own host : String} {J : qh_I} {n index k : Nat} {As stk rest : List Value} (e : I.2.1 = cc) (ho : I.1.cls = own) (hJ : qh_M J n) (h0 : J.2.2.2.2 = []) (q1 : ∀ U, g.2.2.2.2 U → va_Nw (.methodLinkNest own index J.1 host) U) (q2 : Cond.static J.1 ∈ lw_all) (hn : As.length = n) (hs : stk = As.reverse ++ rest) (hw : (rest.map fun v => v.category).sum ≤ 8) (hd : decode cc pc = .ok (.invokestatic index, 3))
    (kk : qh_S g d k J As τ (qh_K1 g (d + 1) c I pc 3 ls rest Q)) : qh_wp g (d + 1) (c + k) I pc ls stk τ Q := by
  intro p e0 s m args below meth cd lsA ws H locs cells slots mc C hl hc hT hP hD hS h1 h2
  subst hs
  have hts := C.2.2.2.2.2.2.1
  have hJh : Cond.code J.1 J.2.1 J.2.2.1 J.2.2.2.1 ∈ lw_all := by rw [← qh_hd0 h0]; exact hJ.2.2.2.2.1
  exact qh_after (k := k) (rest := rest) (vx_runSN (Ts := lw_all) (As := As) (rest := rest) (host := host) ⟨C.1, C.2.1.trans e, C.2.2.2.2.1, ho ▸ C.2.2.2.2.2.1, hts⟩ kk (by
    rw [qh_hd0 h0]
    exact ⟨va_cnB n hts (lw_meth hJh) rfl rfl rfl (q1 s C.2.2.2.2.2.2.2.2.1) (hts _ hJ.2.2.2.1) ⟨hJ.1, hJ.2.1, hJ.2.2.1⟩ (qh_rm hJ.2.2.2.2.2), hts _ q2, trivial⟩) ⟨qh_bl, qh_at C hT hP hD hS⟩ rfl hn hl.1 rfl (lv_room hw) hd (qh_rc h1 h2)) C hl hc hS h1 h2
theorem qh_callIN {own host : String} {J : qh_I} {n index b k : Nat} {As stk rest : List Value} (e : I.2.1 = cc) (ho : I.1.cls = own) (hJ : qh_M J n) (h0 : J.2.2.2.2 = []) (hr : J.2.2.2.1 = none) (hi : J.1.name = "<init>") (q1 : ∀ U, g.2.2.2.2 U → va_Nw (.methodLinkNest own index J.1 host) U) (q2 : Cond.instanceMethod J.1 ∈ lw_all) (hn : As.length = n) (hs : stk = As.reverse ++ .ref b :: rest) (hw : (rest.map fun v => v.category).sum ≤ 8) (hd : decode cc pc = .ok (.invokespecial index, 3))
    (kk : qh_S g d k J (.ref b :: As) τ (qh_K1 g (d + 1) c I pc 3 ls rest Q)) : qh_wp g (d + 1) (c + k) I pc ls stk τ Q := by
  intro p e0 s m args below meth cd lsA ws H locs cells slots mc C hl hc hT hP hD hS h1 h2
  subst hs
  have hts := C.2.2.2.2.2.2.1
  have hJh : Cond.code J.1 J.2.1 J.2.2.1 none ∈ lw_all := by rw [← hr, ← qh_hd0 h0]; exact hJ.2.2.2.2.1
  exact qh_after (k := k) (rest := rest) (vx_runIN (Ts := lw_all) (As := As) (rest := rest) (host := host) ⟨C.1, C.2.1.trans e, C.2.2.2.2.1, ho ▸ C.2.2.2.2.2.1, hts⟩ kk (by
    rw [qh_hd0 h0, hr]
    exact ⟨va_cnB n hts (lw_meth hJh) rfl rfl rfl (q1 s C.2.2.2.2.2.2.2.2.1) (hts _ hJ.2.2.2.1) ⟨hJ.1, hJ.2.1, hJ.2.2.1⟩ (qh_rm hJ.2.2.2.2.2), hi, hts _ q2⟩) ⟨qh_bl, qh_at C hT hP hD hS⟩ rfl hn hl.1 rfl (lv_room hw) hd (qh_rc h1 h2)) C hl hc hS h1 h2
/-- invokeinterface: x the interface's method, J the one of the receiver's class C (or the interface's own) -/
theorem qh_callF {own : String} {x : MethodName} {J : qh_I} {n index count ci b k : Nat} {As stk rest : List Value} {r : vw_C} (e : I.2.1 = cc) (ho : I.1.cls = own) (hJ : qh_M J n) (h0 : J.2.2.2.2 = []) (hx : x.cls ≠ "java/lang/invoke/MethodHandle" ∧ x.cls ≠ "java/lang/invoke/VarHandle" ∧ (parseMethodDescriptor x.desc).map (fun d => d.parameters.length) = some n) (q1 : Cond.methodLink own index x ∈ lw_all) (q3 : Cond.selects r.1 x J.1 ∈ lw_all) (q2 : Cond.instanceMethod J.1 ∈ lw_all) (hF : ∀ U, g.2.2.2.2 U → va_Fw r.1 x J.1 U) (hci : qh_cl[ci]? = some r) (hb : qh_V g τ r.1 b) (hn : As.length = n) (hs : stk = As.reverse ++ .ref b :: rest) (hw : (rest.map fun v => v.category).sum ≤ 8) (hd : decode cc pc = .ok (.invokeinterface index count, 5))
    (kk : qh_S g d k J (.ref b :: As) τ (qh_K1 g (d + 1) c I pc 5 ls rest Q)) : qh_wp g (d + 1) (c + k) I pc ls stk τ Q := by
  intro p e0 s m args below meth cd lsA ws H locs cells slots mc C hl hc hT hP hD hS h1 h2
  subst hs
  have hts := C.2.2.2.2.2.2.1
  have hJh : Cond.code J.1 J.2.1 J.2.2.1 J.2.2.2.1 ∈ lw_all := by rw [← qh_hd0 h0]; exact hJ.2.2.2.2.1
  exact qh_after5 (k := k) (rest := rest) (vx_runF (Ts := lw_all) (As := As) (rest := rest) (C := r.1) (cC := g.2.1.1 ci) (C.2.2.2.2.2.2.2.1.1 ci r hci).2 ⟨C.1, C.2.1.trans e, C.2.2.2.2.1, ho ▸ C.2.2.2.2.2.1, hts⟩ kk (by
    rw [qh_hd0 h0]
    exact va_cwF n hts (qh_gF q1 q3 q2 hJ.2.2.2.1 hJh) rfl rfl rfl (hF s C.2.2.2.2.2.2.2.2.1) hx (qh_rm hJ.2.2.2.2.2)) ⟨qh_bl, hb s H ws locs C.2.2.2.2.2.2.2.1 C.2.2.2.2.2.2.2.2.1 hT hP hS, qh_at C hT hP hD hS⟩ rfl hn hl.1 rfl (lv_room hw) hd (qh_rc h1 h2)) C hl hc hS h1 h2
/-- invokevirtual of a method with handlers -/
theorem qh_callVX {own C : String} {J : qh_I} {n index b k : Nat} {As stk rest : List Value} (e : I.2.1 = cc) (ho : I.1.cls = own) (hJ : qh_M J n) (h0 : qh_hd J = Cond.codeWith J.1 J.2.1 J.2.2.1 J.2.2.2.1 J.2.2.2.2) (q1 : Cond.methodLink own index J.1 ∈ lw_all) (q2 : Cond.instanceMethod J.1 ∈ lw_all) (q3 : Cond.selects J.1.cls J.1 J.1 ∈ lw_all) (hrc : C = J.1.cls) (hb : qh_V g τ C b) (hn : As.length = n) (hs : stk = As.reverse ++ .ref b :: rest) (hw : (rest.map fun v => v.category).sum ≤ 8) (hd : decode cc pc = .ok (.invokevirtual index, 3))
    (kk : qh_S g d k J (.ref b :: As) τ (qh_K1 g (d + 1) c I pc 3 ls rest Q)) : qh_wp g (d + 1) (c + k) I pc ls stk τ Q := by
  intro p e0 s m args below meth cd lsA ws H locs cells slots mc C hl hc hT hP hD hS h1 h2
  subst hs; subst hrc
  have hts := C.2.2.2.2.2.2.1
  have hJh : Cond.codeWith J.1 J.2.1 J.2.2.1 J.2.2.2.1 J.2.2.2.2 ∈ lw_all := by rw [← h0]; exact hJ.2.2.2.2.1
  exact qh_after (k := k) (rest := rest) (vx_runVX (Ts := lw_all) (As := As) (rest := rest) (C := J.1.cls) ⟨C.1, C.2.1.trans e, C.2.2.2.2.1, ho ▸ C.2.2.2.2.2.1, hts⟩ kk (by
    rw [h0]
    exact vx_cwVW n hts (lw_VW q1 q2 q3 hJ.2.2.2.1 hJh) rfl rfl rfl ⟨rfl, hJ.1, hJ.2.1, hJ.2.2.1⟩ (qh_rm hJ.2.2.2.2.2)) ⟨qh_bl, hb s H ws locs C.2.2.2.2.2.2.2.1 C.2.2.2.2.2.2.2.2.1 hT hP hS, qh_at C hT hP hD hS⟩ rfl hn hl.1 rfl (lv_room hw) hd (qh_rc h1 h2)) C hl hc hS h1 h2
/-- an interface's own method, out of a class of it: Interface.super.m() -/
theorem qh_callSU {own : String} {J : qh_I} {n index ci b k : Nat} {As stk rest : List Value} {r : vw_C} (e : I.2.1 = cc) (ho : I.1.cls = own) (hJ : qh_M J n) (h0 : J.2.2.2.2 = []) (hni : J.1.name ≠ "<init>") (q1 : Cond.methodLink own index J.1 ∈ lw_all) (q4 : Cond.sameMethod J.1.cls J.1.cls J.1.name J.1.desc ∈ lw_all) (q5 : Cond.superclass own J.1.cls ∈ lw_all) (q2 : Cond.instanceMethod J.1 ∈ lw_all) (hci : qh_cl[ci]? = some r) (hb : qh_V g τ r.1 b) (hn : As.length = n) (hs : stk = As.reverse ++ .ref b :: rest) (hw : (rest.map fun v => v.category).sum ≤ 8) (hd : decode cc pc = .ok (.invokespecial index, 3))
    (kk : qh_S g d k J (.ref b :: As) τ (qh_K1 g (d + 1) c I pc 3 ls rest Q)) : qh_wp g (d + 1) (c + k) I pc ls stk τ Q := by
  intro p e0 s m args below meth cd lsA ws H locs cells slots mc C hl hc hT hP hD hS h1 h2
  subst hs
  have hts := C.2.2.2.2.2.2.1
  have hJh : Cond.code J.1 J.2.1 J.2.2.1 J.2.2.2.1 ∈ lw_all := by rw [← qh_hd0 h0]; exact hJ.2.2.2.2.1
  exact qh_after (k := k) (rest := rest) (vx_runSU (Ts := lw_all) (As := As) (rest := rest) (C := r.1) (cC := g.2.1.1 ci) (C.2.2.2.2.2.2.2.1.1 ci r hci).2 ⟨C.1, C.2.1.trans e, C.2.2.2.2.1, ho ▸ C.2.2.2.2.2.1, hts⟩ kk (by
    rw [qh_hd0 h0]
    exact va_cwSU n hts (qh_gU q1 q4 q5 q2 hJ.2.2.2.1 hJh) rfl rfl rfl ⟨hni, hJ.2.2.1⟩ (qh_rm hJ.2.2.2.2.2)) ⟨qh_bl, hb s H ws locs C.2.2.2.2.2.2.2.1 C.2.2.2.2.2.2.2.2.1 hT hP hS, qh_at C hT hP hD hS⟩ rfl hn hl.1 rfl (lv_room hw) hd (qh_rc h1 h2)) C hl hc hS h1 h2
/-- a field of a nest mate -/
theorem qh_getN {own Cn host : String} {ci index N a : Nat} {T : u_T} {ty : Nat → FieldType} {fs : List Value} {v : Value} (e : I.2.1 = cc) (ho : I.1.cls = own) (ck : qh_K ci Cn T N ty) (k : Nat) (hk : k < N) (q : ∀ U, g.2.2.2.2 U → va_Nw (.fieldLinkNest own index (T k).1 (T k).2.1 (T k).2.2.1 host) U) (ha : τ a = some (.inr (ci, fs))) (hv : fs[k]? = some v) (hd : decode cc pc = .ok (.getfield index, 3))
    (kk : qh_wp g d c I (pc + 3) ls (v :: st) τ Q) : qh_wp g d c I pc ls (.ref a :: st) τ Q := by
  intro p e0 s m args below meth cd lsA ws H locs cells slots mc C hl hc hT hP hD hS h1 h2
  obtain ⟨k0, hk0⟩ := hT a _ ha
  exact va_getN C.1 (C.2.1.trans e) C.2.2.2.2.2.2.1 ck.2.1 (ho ▸ C.2.2.2.2.2.1) C.2.2.2.2.2.2.2.1 hP k0 hk0 ck.1 k hk (va_Nw.use rfl (q s C.2.2.2.2.2.2.2.2.1)) (fun _ h => h) hv hd (kk p e0 s m args below meth cd lsA ws H locs cells slots mc C hl hc hT hP hD hS h1 h2)
/-- System.arraycopy of int arrays -/
theorem qh_copyI {own : String} {index a0 a n0 n1 : Nat} {f h : Nat → Int32} {sp dp n : Int32} (e : I.2.1 = cc) (ho : I.1.cls = own) (q1 : Cond.methodLink own index arraycopyName ∈ lw_all) (q2 : Cond.native arraycopyName ∈ lw_all) (q3 : Cond.static arraycopyName ∈ lw_all) (q4 : Cond.initialized "java/lang/System" ∈ lw_all) (ha0 : τ a0 = some (.inl (g.2.2.2.1 0, n0, .inl f))) (ha1 : τ a = some (.inl (g.2.2.2.1 0, n1, .inl h))) (e1 : ¬ sp < 0) (e2 : ¬ dp < 0) (e3 : ¬ n < 0) (e4 : sp.toNatClampNeg + n.toNatClampNeg ≤ n0) (e5 : dp.toNatClampNeg + n.toNatClampNeg ≤ n1) (hw : (st.map fun v => v.category).sum ≤ 8) (hd : decode cc pc = .ok (.invokestatic index, 3))
    (kk : qh_wp g d c I (pc + 3) ls st (qh_upd τ a (.inl (g.2.2.2.1 0, n1, .inl (va_cpy f h sp.toNatClampNeg dp.toNatClampNeg n.toNatClampNeg)))) Q) : qh_wp g d c I pc ls (.int n :: .int dp :: .ref a :: .int sp :: .ref a0 :: st) τ Q := by
  intro p e0 s m args below meth cd lsA ws H locs cells slots mc C hl hc hT hP hD hS h1 h2
  have hts := C.2.2.2.2.2.2.1
  obtain ⟨k0, hk0⟩ := hT a0 _ ha0
  obtain ⟨k1, hk1⟩ := hT a _ ha1
  refine va_copyi C.1 (C.2.1.trans e) (C.2.2.2.2.1.trans hl.1.symm) (ho ▸ C.2.2.2.2.2.1) (hts _ q1) (hts _ q2) (hts _ q3) (hts _ q4) C.2.2.2.2.2.2.2.1 hP hD hS k0 k1 0 0 hk0 hk1 rfl rfl rfl e1 e2 e3 e4 e5 (fun _ _ => rfl) ?_ ?_ hd (fun H1 locs1 hP1 hD1 hS1 => kk p e0 s m args below meth cd lsA _ H1 locs1 cells slots mc C hl hc (hT.set hD hk1) hP1 hD1 hS1 h1 h2)
  · show 1 ≤ d + 10
    omega
  · have hz : nativeFrameWords "java/lang/System" "arraycopy" 5 ≤ 100 := by decide +kernel
    show _ + (nativeFrameWords "java/lang/System" "arraycopy" 5 + 11) ≤ 200 * d + 400
    omega
end
