/-! CORE 3: ends, contracts, calls, the heap -/
set_option maxRecDepth 100000
theorem qm_ct {vs : List Value} (h : vs.all (fun v => v.category == 1) = true) : ∀ v ∈ vs, v.category = 1 := fun v hv => by
  have := List.all_eq_true.mp h v hv
  simpa using this
/-- a class, by its number among qh_cl -/
def qh_K (ci : Nat) (C : String) (T : u_T) (N : Nat) (ty : Nat → FieldType) : Prop := qh_cl[ci]? = some (C, T, N) ∧ (∀ w ∈ u_ws C T N, w ∈ lw_all) ∧ (∀ k, k < N → parseFieldDescriptor (T k).2.2.1 = some (ty k)) ∧ (∀ a, a < N → ∀ b, b < N → a ≠ b → (T a).2.1 ≠ (T b).2.1)
section
variable {g : qh_G} {d c : Nat} {I : qh_I} {cc : ByteArray} {pc : Nat} {ls : List (Option Value)} {st : List Value} {τ : qh_H} {Q : qh_R → qh_H → Prop}
theorem qh_wp.mono {Q' : qh_R → qh_H → Prop} (h : ∀ r t, Q r t → Q' r t) (k : qh_wp g d c I pc ls st τ Q) : qh_wp g d c I pc ls st τ Q' := by
  intro p e0 s m args below meth cd lsA ws H locs cells slots mc C hl hc hT hP hD hS h1 h2
  intro T hT0 X
  obtain ⟨t, a1, o, b1, b2, b3⟩ := k p e0 s m args below meth cd lsA ws H locs cells slots mc C hl hc hT hP hD hS h1 h2 T hT0 X
  refine ⟨t, a1, o, b1, b2, ?_⟩
  rcases b3 with ⟨⟨v, τ', e1, e2, e3⟩, e4⟩ | ⟨q, e1, E, ce, L, ⟨τ', e2, e3⟩, e4⟩
  · exact Or.inl ⟨⟨v, τ', e1, h _ _ e2, e3⟩, e4⟩
  · exact Or.inr ⟨q, e1, E, ce, L, ⟨τ', h _ _ e2, e3⟩, e4⟩
theorem qh_wp.less {τ' : qh_H} (h : ∀ a e, τ' a = some e → τ a = some e) (k : qh_wp g d c I pc ls st τ' Q) : qh_wp g d c I pc ls st τ Q := by
  intro p e0 s m args below meth cd lsA ws H locs cells slots mc C hl hc hT hP hD hS h1 h2
  exact k p e0 s m args below meth cd lsA ws H locs cells slots mc C hl hc (hT.less h) hP hD hS h1 h2
theorem qh_wp.cost {c' : Nat} (h : c' ≤ c) (k : qh_wp g d c' I pc ls st τ Q) : qh_wp g d c I pc ls st τ Q := by
  intro p e0 s m args below meth cd lsA ws H locs cells slots mc C hl hc hT hP hD hS h1 h2
  exact k p e0 s m args below meth cd lsA ws H locs cells slots mc C hl hc hT hP hD hS (by omega) (by omega)
theorem qh_wp.eq {pc' : Nat} {ls' : List (Option Value)} {st' : List Value} (h1 : pc = pc') (h2 : ls = ls') (h3 : st = st') (k : qh_wp g d c I pc' ls' st' τ Q) : qh_wp g d c I pc ls st τ Q := by
  subst h1; subst h2; subst h3; exact k
/-! ends -/
theorem qh_iret {v : Int32} (e : I.2.1 = cc) (hr : I.2.2.2.1 = some .int) (hd : decode cc pc = .ok (.ireturn, 1)) (h : Q (.inl (some (.int v))) τ) : qh_wp g d c I pc ls [.int v] τ Q := by
  intro p e0 s m args below meth cd lsA ws H locs cells slots mc C hl hc hT hP hD hS h1 h2
  refine W.widen (k := mc) (n := mc) (by omega) (by omega) ?_
  exact vx_ret (W.iret C.1 (C.2.1.trans e) (C.2.2.1.trans hr) (fun t ht hW => ⟨some (.int v), τ, rfl, h, ⟨ws, hT, by rw [ht]; exact hP, hD⟩, hS.F ht⟩) hS.2.2 hd C.2.2.2.1)
theorem qh_zret {v : Int32} {ty : FieldType} (e : I.2.1 = cc) (hr : I.2.2.2.1 = some ty) (hn : narrow ty (.int v) = .int v) (hd : decode cc pc = .ok (.ireturn, 1)) (h : Q (.inl (some (.int v))) τ) : qh_wp g d c I pc ls [.int v] τ Q := by
  intro p e0 s m args below meth cd lsA ws H locs cells slots mc C hl hc hT hP hD hS h1 h2
  refine W.widen (k := mc) (n := mc) (by omega) (by omega) ?_
  exact vx_ret (W.zret C.1 (C.2.1.trans e) (C.2.2.1.trans hr) hn (fun t ht hW => ⟨some (.int v), τ, rfl, h, ⟨ws, hT, by rw [ht]; exact hP, hD⟩, hS.F ht⟩) hS.2.2 hd C.2.2.2.1)
theorem qh_vret (e : I.2.1 = cc) (hr : I.2.2.2.1 = none) (hd : decode cc pc = .ok (.return_, 1)) (h : Q (.inl none) τ) : qh_wp g d c I pc ls [] τ Q := by
  intro p e0 s m args below meth cd lsA ws H locs cells slots mc C hl hc hT hP hD hS h1 h2
  refine W.widen (k := mc) (n := mc) (by omega) (by omega) ?_
  exact vx_ret (W.vret C.1 (C.2.1.trans e) (C.2.2.1.trans hr) (fun t ht hW => ⟨none, τ, rfl, h, ⟨ws, hT, by rw [ht]; exact hP, hD⟩, hS.F ht⟩) hS.2.2 hd C.2.2.2.1)
theorem qh_aret {v : Value} {rt : FieldType} (e : I.2.1 = cc) (hr : I.2.2.2.1 = some rt) (hrt : (∃ n, rt = .object n) ∨ ∃ t, rt = .array t) (hv : v = .null ∨ ∃ a, v = .ref a) (hd : decode cc pc = .ok (.areturn, 1)) (h : Q (.inl (some v)) τ) : qh_wp g d c I pc ls [v] τ Q := by
  intro p e0 s m args below meth cd lsA ws H locs cells slots mc C hl hc hT hP hD hS h1 h2
  refine W.widen (k := mc) (n := mc) (by omega) (by omega) ?_
  exact vx_ret (W.aret C.1 (C.2.1.trans e) (C.2.2.1.trans hr) hrt hv (fun t ht hW => ⟨some v, τ, rfl, h, ⟨ws, hT, by rw [ht]; exact hP, hD⟩, hS.F ht⟩) hS.2.2 hd C.2.2.2.1)
theorem qh_out {E : String} (hh : ∀ x ∈ tableOf I.2.2.2.2, covers x pc = false) (h : Q (.inr E) τ) : qh_wx g d c I pc ls E τ Q := by
  intro p e0 s m args below meth cd lsA ws H locs cells slots mc rest q ce C hl hc hT hP hD hS h1 h2 hq hv hcl
  exact vx_out (by rw [C.2.2.2.2.2.2.2.2.2.2.2.1]; exact hh) C.2.2.2.1 hq hv hcl (fun t ht hvm => ⟨τ, h, ⟨ws, hT, by rw [ht]; exact hP, hD⟩, hS.F ht⟩) hS.2.2 (by omega) (by omega)
/-! a contract out of its body -/
theorem qh_args : ∀ (vs : List Value) (i k : Nat), (∀ v ∈ vs, v.category = 1) → lv_args i vs = qh_lv i (vs.map some ++ List.replicate k none)
  | [], i, 0, _ => rfl
  | [], i, k + 1, h => by
    have := qh_args [] (i + 1) k h
    rw [List.replicate_succ]
    show lv_args i [] = qh_lv (i + 1) ([].map some ++ List.replicate k none)
    rw [← this]
    rfl
  | v :: r, i, k, h => by
    have h1 := h v List.mem_cons_self
    have := qh_args r (i + 1) k (fun w hw => h w (List.mem_cons_of_mem _ hw))
    show lv_args i (v :: r) = (i, v) :: qh_lv (i + 1) (r.map some ++ List.replicate k none)
    rw [← this]
    show (i, v) :: lv_args (if v.category = 2 then i + 2 else i + 1) r = _
    rw [if_neg (by rw [h1]; decide)]
theorem qh_slen : ∀ vs : List Value, (∀ v ∈ vs, v.category = 1) → (lg_sl vs).length = vs.length
  | [], _ => rfl
  | v :: r, h => by
    have h1 := h v List.mem_cons_self
    have := qh_slen r (fun w hw => h w (List.mem_cons_of_mem _ hw))
    have e : lg_sl (v :: r) = [Slot.val v] ++ lg_sl r := by
      show ((v :: r).flatMap _) = _
      rw [List.flatMap_cons, if_neg (by rw [h1]; decide)]
      rfl
    rw [e, List.length_append, this]
    simp only [List.length_cons, List.length_nil]
    omega
theorem qh_catE {As : List Value} {n : Nat} (h : ∀ v ∈ As, v.category = 1) : ∀ v : Value, some v ∈ As.map some ++ List.replicate n none → v.category = 1 := by
  intro v hv
  rcases List.mem_append.mp hv with q | q
  · obtain ⟨w, hw, e⟩ := List.mem_map.mp q
    cases e
    exact h v hw
  · have := List.eq_of_mem_replicate q
    cases this
theorem qh_S.of {As : List Value} (hy : plainName I.1.cls = true) (h0 : I.2.2.2.2 = []) (hls : ls = As.map some ++ List.replicate (I.2.2.1 - As.length) none) (hlen : As.length ≤ I.2.2.1) (hcat : ∀ v ∈ As, v.category = 1) (k : qh_wp g d c I 0 ls [] τ Q) : qh_S g d c I As τ Q := by
  have hhd : qh_hd I = Cond.code I.1 I.2.1 I.2.2.1 I.2.2.2.1 := by unfold qh_hd; rw [h0]
  unfold qh_S
  refine vx_ofW (cc := I.2.1) (maxL := I.2.2.1) (ret := I.2.2.2.1) hy (by rw [hhd]) ?_
  intro p e s m args below meth cd s₁ B hml hex hv
  obtain ⟨rfl, ⟨ws, hT, hP, hD⟩, hK, hX, hA, hSt⟩ := hv
  have hts := atoms_spec (ws := qh_hd I :: lw_all) B.pre
  have hts : ∀ w ∈ lw_all, w.before _ s = true := fun w h => hts w (List.mem_cons_of_mem _ h)
  have hl := lv_entry As (n := I.2.2.1) (by rw [qh_slen As hcat]; exact hlen)
  rw [lg_entry_eq]
  rw [qh_args As 0 (I.2.2.1 - As.length) hcat, ← hls] at hl
  refine k p e s m _ below meth cd _ ws s.heap [] 0 0 c ⟨B.exec, B.bytes, B.returns, B.notSynchronized, hml, findClass_of_methodNamed B.named, hts, hK, hX, hA, (name_of_methodNamed B.named B.method).1, ?_, hSt⟩ hl (by rw [hls]; exact qh_catE hcat) hT hP hD va_S.rf (by omega) (by omega)
  rw [h0]
  have : cd.exceptionTable.toList = [] := List.eq_nil_iff_forall_not_mem.mpr fun x hx => hex x hx
  rw [this]
  rfl
theorem qh_S.ofH {As : List Value} (hy : plainName I.1.cls = true) (h0 : qh_hd I = Cond.codeWith I.1 I.2.1 I.2.2.1 I.2.2.2.1 I.2.2.2.2) (hls : ls = As.map some ++ List.replicate (I.2.2.1 - As.length) none) (hlen : As.length ≤ I.2.2.1) (hcat : ∀ v ∈ As, v.category = 1) (k : qh_wp g d c I 0 ls [] τ Q) : qh_S g d c I As τ Q := by
  unfold qh_S
  refine vx_ofWH (cc := I.2.1) (maxL := I.2.2.1) (ret := I.2.2.2.1) (hh := I.2.2.2.2) hy (by rw [h0]) ?_
  intro p e s m args below meth cd s₁ B hml hv
  obtain ⟨rfl, ⟨ws, hT, hP, hD⟩, hK, hX, hA, hSt⟩ := hv
  have hts0 := atoms_spec (ws := qh_hd I :: lw_all) B.pre
  have hts : ∀ w ∈ lw_all, w.before _ s = true := fun w h => hts0 w (List.mem_cons_of_mem _ h)
  have hl := lv_entry As (n := I.2.2.1) (by rw [qh_slen As hcat]; exact hlen)
  rw [lg_entry_eq]
  rw [qh_args As 0 (I.2.2.1 - As.length) hcat, ← hls] at hl
  have htab := vx_table (x := I.1) B (by rw [← h0]; exact hts0 _ List.mem_cons_self)
  exact k p e s m _ below meth cd _ ws s.heap [] 0 0 c ⟨B.exec, B.bytes, B.returns, B.notSynchronized, hml, findClass_of_methodNamed B.named, hts, hK, hX, hA, (name_of_methodNamed B.named B.method).1, htab, hSt⟩ hl (by rw [hls]; exact qh_catE hcat) hT hP hD va_S.rf (by omega) (by omega)
theorem qh_S.mono {As : List Value} {Q' : qh_R → qh_H → Prop} (h : ∀ r t, Q r t → Q' r t) (k : qh_S g d c I As τ Q) : qh_S g d c I As τ Q' := by
  refine MetFree.mono k (fun _ _ z => z) (fun _ _ _ _ _ z => z) (fun a s o t _ hq => ?_)
  rcases hq with ⟨⟨v, τ', e1, e2, e3⟩, e4⟩ | ⟨q, e1, E, ce, L, ⟨τ', e2, e3⟩, e4⟩
  · exact Or.inl ⟨⟨v, τ', e1, h _ _ e2, e3⟩, e4⟩
  · exact Or.inr ⟨q, e1, E, ce, L, ⟨τ', h _ _ e2, e3⟩, e4⟩
theorem qh_S.less {As : List Value} {τ' : qh_H} (h : ∀ a e, τ' a = some e → τ a = some e) (k : qh_S g d c I As τ' Q) : qh_S g d c I As τ Q := by
  refine MetFree.mono k (fun a s z => ?_) (fun _ _ _ _ _ z => z) (fun a s o t _ hq => hq)
  obtain ⟨e, ⟨ws, hT, hP, hD⟩, r⟩ := z
  exact ⟨e, ⟨ws, hT.less h, hP, hD⟩, r⟩
theorem qh_drop (i : Nat) (k : qh_wp g d c I pc (ls.set i none) st τ Q) : qh_wp g d c I pc ls st τ Q := by
  intro p e0 s m args below meth cd lsA ws H locs cells slots mc C hl hc hT hP hD hS h1 h2
  refine k p e0 s m args below meth cd lsA ws H locs cells slots mc C ⟨hl.1, hl.2.1, fun q hq => ?_⟩ (fun v hv => ?_) hT hP hD hS h1 h2
  · obtain ⟨j, e1, e2⟩ := qh_lv_of _ _ _ hq
    rw [Nat.zero_add] at e1
    have hj : i ≠ j := by
      intro z
      subst z
      by_cases hi : i < ls.length
      · rw [List.getElem?_set_self hi] at e2
        cases e2
      · rw [List.getElem?_eq_none (by rw [List.length_set]; omega)] at e2
        cases e2
    rw [List.getElem?_set_ne hj] at e2
    have := qh_lv_mem ls 0 j q.2 e2
    rw [Nat.zero_add, ← e1] at this
    exact hl.2.2 q this
  · rcases List.mem_or_eq_of_mem_set hv with z | z
    · exact hc v z
    · cases z
/-! calls -/
def qh_M (J : qh_I) (n : Nat) : Prop := J.1.cls ≠ "java/lang/invoke/MethodHandle" ∧ J.1.cls ≠ "java/lang/invoke/VarHandle" ∧ (parseMethodDescriptor J.1.desc).map (fun d => d.parameters.length) = some n ∧ Cond.initialized J.1.cls ∈ lw_all ∧ qh_hd J ∈ lw_all ∧ J.2.2.1 ≤ 180
theorem qh_bl {As : List Value} : FrameBlind (va_Pc As (qh_P g τ)) := fun a U f mk q => by
  obtain ⟨q0, hw, hK, hX, hA, hSt⟩ := q
  exact ⟨q0, hw, va_K.moved (u := U) (U := U.calling f mk a) (Vm.Alike.refl U.vm) hK, hSt U _ (State.WarmedH.refl U) (Nat.le_refl _) (fun _ _ _ => rfl) hX, hA, hSt⟩
theorem qh_at {p : Program} {s : State} {m : MethodId} {args : Array Value} {meth : Method} {cd : Code} {ws : va_W} {H : Heap} {locs : List Loc} {As : List Value} (C : qh_C g I p s m args meth cd) (hT : qh_T τ ws) (hP : va_P g.2.1 qh_cl ws H) (hD : va_D g.2.2.1 ws) (hS : va_S g.2.2.1 s.heap H locs) : ∀ U : State, U.heap = H → s.WarmedH U.vm → va_Pc As (qh_P g τ) As.toArray U := by
  intro U hU hW
  obtain ⟨-, -, -, -, -, -, -, hK, hX, hA, -, -, hSt⟩ := C
  exact ⟨rfl, ⟨ws, hT, by rw [hU]; exact hP, hD⟩, va_K.moved hW.alike hK, hSt s U hW (by rw [hU]; exact hS.1) (fun q h1 h2 => by rw [hU]; exact hS.2.1 q h1 h2) hX, fun q hq => hA q (Nat.le_trans hS.1 (by rw [hU] at hq; exact hq)), hSt⟩
def qh_K1 (g : qh_G) (d c : Nat) (I : qh_I) (pc n : Nat) (ls : List (Option Value)) (rest : List Value) (Q : qh_R → qh_H → Prop) : qh_R → qh_H → Prop := fun r t => match r with
  | .inl v => qh_wp g d c I (pc + n) ls (v.toList ++ rest) t Q
  | .inr E => qh_wx g d c I pc ls E t Q
theorem qh_after {p : Program} {e0 : Env} {s : State} {m : MethodId} {args : Array Value} {below : List Frame} {meth : Method} {cd : Code} {lsA : Array Slot} {H : Heap} {locs : List Loc} {cells slots mc k : Nat} {st0 rest : List Value} {av : Array Value}
    (hr : vx_Run p g.1 e0 (qh_room d mc) s m args below meth cd H locs cells slots k k (F0 m pc lsA st0) rest (qh_Qc g (qh_K1 g d c I pc 3 ls rest Q) av) (qh_Xc g (qh_K1 g d c I pc 3 ls rest Q)) g.2.2.1)
    (C : qh_C g I p s m args meth cd) (hl : lv_has lsA I.2.2.1 (qh_lv 0 ls)) (hc : ∀ v : Value, some v ∈ ls → v.category = 1) (hS : va_S g.2.2.1 s.heap H locs) (h1 : cells + (c + k) ≤ mc) (h2 : slots + (c + k) ≤ mc) :
    W p g.1 e0 (qh_room d mc) s m args below meth cd H locs cells slots (vx_MQ below (qh_Qc g Q) (qh_Xc g Q) args s mc mc g.2.2.1) (F0 m pc lsA st0) := by
  intro T hT0 X
  rcases hr T hT0 X with ⟨v, st₀, t, T', L, h0, X', hL, e1, e2, ⟨v', τ', hv, hq, ⟨ws', hT', hP', hD'⟩, hF⟩, stp⟩ | ⟨q, st₀, t, T', L, E, ce, h0, X', hL, e1, e2, ⟨τ', hq, ⟨ws', hT', hP', hD'⟩, hF⟩, hce, hcv, hcl, stp⟩
  · cases hv
    obtain ⟨-, -, k3⟩ := vx_keep (A0 := g.2.2.1) (A1 := g.2.2.1) h0 e1 hS (fun q _ h => h) (fun q h => h) hL hF
    have hq : qh_wp g d c I (pc + 3) ls (v.toList ++ rest) τ' Q := hq
    obtain ⟨t2, a1, b1⟩ := hq p e0 s m args below meth cd lsA ws' T'.heap (locs ++ L) (cells + k) (slots + k) mc C hl hc hT' (by rw [e1]; exact hP') hD' k3 (by omega) (by omega) T' rfl X'
    exact ⟨t2, stp t2 a1, b1⟩
  · obtain ⟨-, -, k3⟩ := vx_keep (A0 := g.2.2.1) (A1 := g.2.2.1) h0 e1 hS (fun q _ h => h) (fun q h => h) hL hF
    have hq : qh_wx g d c I pc ls E τ' Q := hq
    obtain ⟨t2, a1, b1⟩ := hq p e0 s m args below meth cd lsA ws' T'.heap (locs ++ L) (cells + k) (slots + k) mc rest q ce C hl hc hT' (by rw [e1]; exact hP') hD' k3 (by omega) (by omega) (by rw [e1]; exact hce) hcv hcl T' rfl X'
    exact ⟨t2, stp.trans a1, b1⟩
theorem qh_rm {d k mc L : Nat} (h : L ≤ 180) : (qh_room d k).frames + 1 ≤ (qh_room (d + 1) mc).frames ∧ 8 + (L + 11) + (qh_room d k).locals ≤ (qh_room (d + 1) mc).locals := by
  constructor
  · show d + 10 + 1 ≤ d + 1 + 10
    omega
  · show 8 + (L + 11) + (200 * d + 400) ≤ 200 * (d + 1) + 400
    omega
theorem qh_rc {d c k cells slots mc : Nat} (h1 : cells + (c + k) ≤ mc) (h2 : slots + (c + k) ≤ mc) : cells + k ≤ (qh_room d mc).cells ∧ slots + k ≤ (qh_room d mc).slots := by
  constructor
  · show cells + k ≤ mc
    omega
  · show slots + k ≤ mc
    omega
theorem qh_hd0 {J : qh_I} (h0 : J.2.2.2.2 = []) : qh_hd J = Cond.code J.1 J.2.1 J.2.2.1 J.2.2.2.1 := by unfold qh_hd; rw [h0]
/-- invokevirtual: the receiver an object of the method's own class -/
theorem qh_callV {own : String} {J : qh_I} {n index ci b k : Nat} {fs As stk rest : List Value} {r : vw_C} (e : I.2.1 = cc) (ho : I.1.cls = own) (hJ : qh_M J n) (h0 : J.2.2.2.2 = []) (q1 : Cond.methodLink own index J.1 ∈ lw_all) (q2 : Cond.instanceMethod J.1 ∈ lw_all) (q3 : Cond.selects J.1.cls J.1 J.1 ∈ lw_all) (hci : qh_cl[ci]? = some r) (hrc : r.1 = J.1.cls) (hb : τ b = some (.inr (ci, fs))) (hn : As.length = n) (hs : stk = As.reverse ++ .ref b :: rest) (hw : (rest.map fun v => v.category).sum ≤ 8) (hd : decode cc pc = .ok (.invokevirtual index, 3))
    (kk : qh_S g d k J (.ref b :: As) τ (qh_K1 g (d + 1) c I pc 3 ls rest Q)) : qh_wp g (d + 1) (c + k) I pc ls stk τ Q := by
  intro p e0 s m args below meth cd lsA ws H locs cells slots mc C hl hc hT hP hD hS h1 h2
  subst hs
  obtain ⟨k0, hk0⟩ := hT b _ hb
  have hts := C.2.2.2.2.2.2.1
  have hJh : Cond.code J.1 J.2.1 J.2.2.1 J.2.2.2.1 ∈ lw_all := by rw [← qh_hd0 h0]; exact hJ.2.2.2.2.1
  refine qh_after (k := k) (rest := rest) (vx_runV (Ts := lw_all) (As := As) (rest := rest) ⟨C.1, C.2.1.trans e, C.2.2.2.2.1, ho ▸ C.2.2.2.2.2.1, hts⟩ kk (by
    rw [qh_hd0 h0]
    exact cwV (C := J.1.cls) n hts (lw_V q1 q2 q3 hJ.2.2.2.1 hJh) rfl rfl rfl ⟨rfl, hJ.1, hJ.2.1, hJ.2.2.1⟩ (qh_rm hJ.2.2.2.2.2)) ⟨qh_bl, ?_, qh_at C hT hP hD hS⟩ rfl hn hl.1 rfl (lv_room hw) hd (qh_rc h1 h2)) C hl hc hS h1 h2
  have := va_recv C.2.2.2.2.2.2.2.1 hP hci hk0
  rw [hrc] at this
  exact this
/-- invokestatic -/
theorem qh_callS {own : String} {J : qh_I} {n index k : Nat} {As stk rest : List Value} (e : I.2.1 = cc) (ho : I.1.cls = own) (hJ : qh_M J n) (h0 : J.2.2.2.2 = []) (q1 : Cond.methodLink own index J.1 ∈ lw_all) (q2 : Cond.static J.1 ∈ lw_all) (hn : As.length = n) (hs : stk = As.reverse ++ rest) (hw : (rest.map fun v => v.category).sum ≤ 8) (hd : decode cc pc = .ok (.invokestatic index, 3))
    (kk : qh_S g d k J As τ (qh_K1 g (d + 1) c I pc 3 ls rest Q)) : qh_wp g (d + 1) (c + k) I pc ls stk τ Q := by
  intro p e0 s m args below meth cd lsA ws H locs cells slots mc C hl hc hT hP hD hS h1 h2
  subst hs
  have hts := C.2.2.2.2.2.2.1
  have hJh : Cond.code J.1 J.2.1 J.2.2.1 J.2.2.2.1 ∈ lw_all := by rw [← qh_hd0 h0]; exact hJ.2.2.2.2.1
  exact qh_after (k := k) (rest := rest) (vx_runS (Ts := lw_all) (As := As) (rest := rest) ⟨C.1, C.2.1.trans e, C.2.2.2.2.1, ho ▸ C.2.2.2.2.2.1, hts⟩ kk (by
    rw [qh_hd0 h0]
    exact va_cwS n hts (lw_S q1 q2 hJ.2.2.2.1 hJh) rfl rfl rfl ⟨hJ.1, hJ.2.1, hJ.2.2.1⟩ (qh_rm hJ.2.2.2.2.2)) ⟨qh_bl, qh_at C hT hP hD hS⟩ rfl hn hl.1 rfl (lv_room hw) hd (qh_rc h1 h2)) C hl hc hS h1 h2
/-! the heap -/
theorem qh_getf {own Cn : String} {ci index N a : Nat} {T : u_T} {ty : Nat → FieldType} {fs : List Value} {v : Value} (e : I.2.1 = cc) (ho : I.1.cls = own) (ck : qh_K ci Cn T N ty) (k : Nat) (hk : k < N) (q : Cond.fieldLink own index (T k).1 (T k).2.1 (T k).2.2.1 ∈ lw_all) (ha : τ a = some (.inr (ci, fs))) (hv : fs[k]? = some v) (hd : decode cc pc = .ok (.getfield index, 3))
    (kk : qh_wp g d c I (pc + 3) ls (v :: st) τ Q) : qh_wp g d c I pc ls (.ref a :: st) τ Q := by
  intro p e0 s m args below meth cd lsA ws H locs cells slots mc C hl hc hT hP hD hS h1 h2
  obtain ⟨k0, hk0⟩ := hT a _ ha
  exact va_get C.1 (C.2.1.trans e) C.2.2.2.2.2.2.1 ck.2.1 (ho ▸ C.2.2.2.2.2.1) C.2.2.2.2.2.2.2.1 hP k0 hk0 ck.1 k hk (C.2.2.2.2.2.2.1 _ q) (fun _ h => h) hv hd (kk p e0 s m args below meth cd lsA ws H locs cells slots mc C hl hc hT hP hD hS h1 h2)
theorem qh_putf {own Cn : String} {ci index N a : Nat} {T : u_T} {ty : Nat → FieldType} {fs : List Value} {v : Value} (e : I.2.1 = cc) (ho : I.1.cls = own) (ck : qh_K ci Cn T N ty) (k : Nat) (hk : k < N) (q : Cond.fieldLink own index (T k).1 (T k).2.1 (T k).2.2.1 ∈ lw_all) (hf : (T k).2.2.2 = false) (hn : narrow (ty k) v = v) (hfit : fits (ty k) v = true) (ha : τ a = some (.inr (ci, fs))) (hl9 : k < fs.length) (hd : decode cc pc = .ok (.putfield index, 3))
    (kk : qh_wp g d c I (pc + 3) ls st (qh_upd τ a (.inr (ci, fs.set k v))) Q) : qh_wp g d c I pc ls (v :: .ref a :: st) τ Q := by
  intro p e0 s m args below meth cd lsA ws H locs cells slots mc C hl hc hT hP hD hS h1 h2
  obtain ⟨k0, hk0⟩ := hT a _ ha
  exact va_put C.1 (C.2.1.trans e) C.2.2.2.2.2.2.1 ck.2.1 ty ck.2.2.1 ck.2.2.2 (ho ▸ C.2.2.2.2.2.1) C.2.2.2.2.2.2.2.1 hP hD hS k0 hk0 ck.1 k hk (C.2.2.2.2.2.2.1 _ q) (fun _ h => h) hf (ck.2.2.1 k hk) hn hfit hl9 hd (fun H1 locs1 hP1 hD1 hS1 => kk p e0 s m args below meth cd lsA _ H1 locs1 cells slots mc C hl hc (hT.set hD hk0) hP1 hD1 hS1 h1 h2)
theorem qh_putF {own Cn : String} {ci index N a : Nat} {T : u_T} {ty : Nat → FieldType} {fs : List Value} {v : Value} (e : I.2.1 = cc) (ho : I.1.cls = own) (hi : I.1.name = "<init>") (ck : qh_K ci Cn T N ty) (k : Nat) (hk : k < N) (q : Cond.fieldLink own index (T k).1 (T k).2.1 (T k).2.2.1 ∈ lw_all) (hf : (T k).2.2.2 = true) (hdc : (T k).1 = own) (hn : narrow (ty k) v = v) (hfit : fits (ty k) v = true) (ha : τ a = some (.inr (ci, fs))) (hl9 : k < fs.length) (hd : decode cc pc = .ok (.putfield index, 3))
    (kk : qh_wp g d c I (pc + 3) ls st (qh_upd τ a (.inr (ci, fs.set k v))) Q) : qh_wp g d c I pc ls (v :: .ref a :: st) τ Q := by
  intro p e0 s m args below meth cd lsA ws H locs cells slots mc C hl hc hT hP hD hS h1 h2
  obtain ⟨k0, hk0⟩ := hT a _ ha
  exact va_putF C.1 (C.2.1.trans e) C.2.2.2.2.2.2.1 ck.2.1 ty ck.2.2.1 ck.2.2.2 (ho ▸ C.2.2.2.2.2.1) C.2.2.2.2.2.2.2.1 hP hD hS k0 hk0 ck.1 k hk (C.2.2.2.2.2.2.1 _ q) (fun _ h => h) hf (C.2.2.2.2.2.2.2.2.2.2.1.trans hi) hdc (ck.2.2.1 k hk) hn hfit hl9 hd (fun H1 locs1 hP1 hD1 hS1 => kk p e0 s m args below meth cd lsA _ H1 locs1 cells slots mc C hl hc (hT.set hD hk0) hP1 hD1 hS1 h1 h2)
theorem qh_iald {a n : Nat} {f : Nat → Int32} {i : Int32} (e : I.2.1 = cc) (ha : τ a = some (.inl (g.2.2.2.1 0, n, .inl f))) (hin : vp_in i n) (hd : decode cc pc = .ok (.iaload, 1)) (kk : qh_wp g d c I (pc + 1) ls (.int (f i.toNatClampNeg) :: st) τ Q) : qh_wp g d c I pc ls (.int i :: .ref a :: st) τ Q := by
  intro p e0 s m args below meth cd lsA ws H locs cells slots mc C hl hc hT hP hD hS h1 h2
  obtain ⟨k0, hk0⟩ := hT a _ ha
  exact va_iald C.1 (C.2.1.trans e) C.2.2.2.2.2.2.2.1 hP k0 0 hk0 rfl hin hd (kk p e0 s m args below meth cd lsA ws H locs cells slots mc C hl hc hT hP hD hS h1 h2)
theorem qh_zald {a n : Nat} {f : Nat → Int32} {i : Int32} (e : I.2.1 = cc) (ha : τ a = some (.inl (g.2.2.2.1 1, n, .inl f))) (hin : vp_in i n) (hd : decode cc pc = .ok (.baload, 1)) (kk : qh_wp g d c I (pc + 1) ls (.int (f i.toNatClampNeg) :: st) τ Q) : qh_wp g d c I pc ls (.int i :: .ref a :: st) τ Q := by
  intro p e0 s m args below meth cd lsA ws H locs cells slots mc C hl hc hT hP hD hS h1 h2
  obtain ⟨k0, hk0⟩ := hT a _ ha
  exact va_zald C.1 (C.2.1.trans e) C.2.2.2.2.2.2.2.1 hP k0 1 hk0 rfl hin hd (kk p e0 s m args below meth cd lsA ws H locs cells slots mc C hl hc hT hP hD hS h1 h2)
theorem qh_lald {a n : Nat} {f : Nat → Int64} {i : Int32} (e : I.2.1 = cc) (ha : τ a = some (.inl (g.2.2.2.1 2, n, .inr (.inl f)))) (hin : vp_in i n) (hd : decode cc pc = .ok (.laload, 1)) (kk : qh_wp g d c I (pc + 1) ls (.long (f i.toNatClampNeg) :: st) τ Q) : qh_wp g d c I pc ls (.int i :: .ref a :: st) τ Q := by
  intro p e0 s m args below meth cd lsA ws H locs cells slots mc C hl hc hT hP hD hS h1 h2
  obtain ⟨k0, hk0⟩ := hT a _ ha
  exact va_lald C.1 (C.2.1.trans e) C.2.2.2.2.2.2.2.1 hP k0 2 hk0 rfl hin hd (kk p e0 s m args below meth cd lsA ws H locs cells slots mc C hl hc hT hP hD hS h1 h2)
theorem qh_iast {a n : Nat} {f : Nat → Int32} {i x : Int32} (e : I.2.1 = cc) (ha : τ a = some (.inl (g.2.2.2.1 0, n, .inl f))) (hin : vp_in i n) (hd : decode cc pc = .ok (.iastore, 1)) (kk : qh_wp g d c I (pc + 1) ls st (qh_upd τ a (.inl (g.2.2.2.1 0, n, .inl (upd f i.toNatClampNeg x)))) Q) : qh_wp g d c I pc ls (.int x :: .int i :: .ref a :: st) τ Q := by
  intro p e0 s m args below meth cd lsA ws H locs cells slots mc C hl hc hT hP hD hS h1 h2
  obtain ⟨k0, hk0⟩ := hT a _ ha
  exact va_iast C.1 (C.2.1.trans e) C.2.2.2.2.2.2.2.1 hP hD hS k0 0 hk0 rfl hin hd (fun H1 locs1 hP1 hD1 hS1 => kk p e0 s m args below meth cd lsA _ H1 locs1 cells slots mc C hl hc (hT.set hD hk0) hP1 hD1 hS1 h1 h2)
theorem qh_zast {a n : Nat} {f : Nat → Int32} {i x : Int32} (e : I.2.1 = cc) (ha : τ a = some (.inl (g.2.2.2.1 1, n, .inl f))) (hin : vp_in i n) (hd : decode cc pc = .ok (.bastore, 1)) (kk : qh_wp g d c I (pc + 1) ls st (qh_upd τ a (.inl (g.2.2.2.1 1, n, .inl (upd f i.toNatClampNeg (vp_nar .boolean x))))) Q) : qh_wp g d c I pc ls (.int x :: .int i :: .ref a :: st) τ Q := by
  intro p e0 s m args below meth cd lsA ws H locs cells slots mc C hl hc hT hP hD hS h1 h2
  obtain ⟨k0, hk0⟩ := hT a _ ha
  exact va_zast C.1 (C.2.1.trans e) C.2.2.2.2.2.2.2.1 hP hD hS k0 1 hk0 rfl hin hd (fun H1 locs1 hP1 hD1 hS1 => kk p e0 s m args below meth cd lsA _ H1 locs1 cells slots mc C hl hc (hT.set hD hk0) hP1 hD1 hS1 h1 h2)
theorem qh_last {a n : Nat} {f : Nat → Int64} {i : Int32} {x : Int64} (e : I.2.1 = cc) (ha : τ a = some (.inl (g.2.2.2.1 2, n, .inr (.inl f)))) (hin : vp_in i n) (hd : decode cc pc = .ok (.lastore, 1)) (kk : qh_wp g d c I (pc + 1) ls st (qh_upd τ a (.inl (g.2.2.2.1 2, n, .inr (.inl (vp_updL f i.toNatClampNeg x))))) Q) : qh_wp g d c I pc ls (.long x :: .int i :: .ref a :: st) τ Q := by
  intro p e0 s m args below meth cd lsA ws H locs cells slots mc C hl hc hT hP hD hS h1 h2
  obtain ⟨k0, hk0⟩ := hT a _ ha
  exact va_last C.1 (C.2.1.trans e) C.2.2.2.2.2.2.2.1 hP hD hS k0 2 hk0 rfl hin hd (fun H1 locs1 hP1 hD1 hS1 => kk p e0 s m args below meth cd lsA _ H1 locs1 cells slots mc C hl hc (hT.set hD hk0) hP1 hD1 hS1 h1 h2)
theorem qh_alen {a t : Nat} {x : vp_A} {ty : FieldType} (e : I.2.1 = cc) (t0 : Nat) (ht : ∀ cA : Nat → ClassId, (qh_tys cA)[t0]? = some (cA t0, ty)) (ha : τ a = some (.inl (g.2.2.2.1 t0, x))) (hd : decode cc pc = .ok (.arraylength, 1)) (kk : qh_wp g d c I (pc + 1) ls (.int (Int32.ofNat x.1) :: st) τ Q) : qh_wp g d c I pc ls (.ref a :: st) τ Q := by
  intro p e0 s m args below meth cd lsA ws H locs cells slots mc C hl hc hT hP hD hS h1 h2
  obtain ⟨k0, hk0⟩ := hT a _ ha
  exact va_alen C.1 (C.2.1.trans e) C.2.2.2.2.2.2.2.1 hP k0 t0 hk0 (ht _) rfl hd (kk p e0 s m args below meth cd lsA ws H locs cells slots mc C hl hc hT hP hD hS h1 h2)
end
