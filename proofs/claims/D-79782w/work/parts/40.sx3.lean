/-! SX 3: the constructors of exceptions as contracts -/
set_option maxRecDepth 100000
/-- a new exception of the class cls at a -/
def exP (cls : String) (cX : ClassId) (a : Nat) (A : Nat → Prop) : State → Prop := fun U => U.vm.findClass cls = some cX ∧ (∃ kX, U.vm.classes[cX]? = some kX ∧ U.heap[a]? = some (freshCell cX kX)) ∧ vx_Zq Bundle.tN "UNASSIGNED_STACK" Bundle.steD A U U.heap ∧ vx_Zq Bundle.tN "SUPPRESSED_SENTINEL" Bundle.listD A U U.heap
def exH (cls : String) (cX : ClassId) (a : Nat) (A : Nat → Prop) (U : State) (H : Heap) : Prop := U.vm.findClass cls = some cX ∧ (∃ kX, U.vm.classes[cX]? = some kX ∧ H[a]? = some (freshCell cX kX)) ∧ vx_Zq Bundle.tN "UNASSIGNED_STACK" Bundle.steD A U H ∧ vx_Zq Bundle.tN "SUPPRESSED_SENTINEL" Bundle.listD A U H
theorem exH.P {cls : String} {cX : ClassId} {a : Nat} {A : Nat → Prop} {u U : State} {H : Heap} (hvm : u.vm.Alike U.vm) (hh : U.heap = H) (h : exH cls cX a A u H) : exP cls cX a A U := by
  obtain ⟨h1, ⟨kX, h2, h3⟩, h4, h5⟩ := h
  obtain ⟨k', hk', he⟩ := hvm.2.2 _ _ h2
  refine ⟨by rw [hvm.findClass]; exact h1, ⟨k', hk', by rw [hh, he]; exact h3⟩, ?_, ?_⟩
  · rw [hh]; exact vx_Zq.moved hvm h4
  · rw [hh]; exact vx_Zq.moved hvm h5
def exQ (cX : ClassId) (a : Nat) : Array Value → State → Outcome → State → Prop := fun _ st o t => o = .returned none ∧ (∃ ce, t.heap[a]? = some ce ∧ ce.cls = cX ∧ ce.vm = .none) ∧ t.heap.size = st.heap.size ∧ ∀ q, q ≠ a → t.heap[q]? = st.heap[q]?
theorem exP.moved {cls : String} {cX : ClassId} {a : Nat} {A : Nat → Prop} {u U : State} (hvm : u.vm.Alike U.vm) (hh : U.heap = u.heap) (h : exP cls cX a A u) : exP cls cX a A U := by
  obtain ⟨h1, ⟨kX, h2, h3⟩, h4, h5⟩ := h
  obtain ⟨k', hk', he⟩ := hvm.2.2 _ _ h2
  refine ⟨by rw [hvm.findClass]; exact h1, ⟨k', hk', by rw [hh, he]; exact h3⟩, ?_, ?_⟩
  · rw [hh]; exact vx_Zq.moved hvm h4
  · rw [hh]; exact vx_Zq.moved hvm h5
theorem W.exLd {p : Program} {l : Launch} {e : Env} {R : Room} {s : State} {m : MethodId} {args : Array Value} {below : List Frame} {meth : Method} {c : Code} {Q : State → Prop} {cells slots pc : Nat} {cc : ByteArray} {ls : Array Slot} {H : Heap} {locs : List Loc} {rest : List Value} {k : Fin 4} {r : Option Nat} (hx : p.tables.exec = Jvm.exec) (hb : c.code = cc) (hd : decode cc pc = .ok (.aload_n k, 1)) (hl : ls[(k : Nat)]? = some (.val (va_rf r))) (kk : W p l e R s m args below meth c H locs cells slots Q (F0 m (pc + 1) ls (va_rf r :: rest))) : W p l e R s m args below meth c H locs cells slots Q (F0 m pc ls rest) := by
  cases r with
  | none => exact lv_aload_nN hx hb hd rfl hl kk
  | some x => exact lv_aload_n hx hb hd rfl hl kk
abbrev exRm (n : Nat) : Room := { frames := n + 3, cells := 0, slots := 0, locals := 40 * n + 60 }
section
variable {l : Launch} {cls : String} {cX : ClassId} {a sa : Nat} {A : Nat → Prop}
theorem ex_thr1 (hl : l.stackTraces = false) (hcls : ∀ w ∈ exW cls, w ∈ lw_all) : Met l yJ3_init (ws_ yJ3_init cJ3_init 2 none) (exRm 0) (va_Pc [.ref a, .ref sa] (exP cls cX a A)) (exQ cX a) 0 0 (fun q => q = a) := by
  refine Met.ofW (cc := cJ3_init) (maxL := 2) (ret := none) (by decide) rfl ?_
  intro p e s m args below meth c s₁ B hml hv
  obtain ⟨rfl, hfound, ⟨kX, hk, hcell⟩, hU, hN⟩ := hv
  have hts0 := atoms_spec (ws := ws_ yJ3_init cJ3_init 2 none) B.pre
  have hts : ∀ w ∈ lw_all, w.before _ s = true := fun w h => hts0 w (List.mem_cons_of_mem _ h)
  have hl2 := lv_entry ([.ref a, .ref sa]) (n := 2) (Nat.le_of_ble_eq_true rfl)
  rw [lg_entry_eq]
  generalize (lg_sl ([.ref a, .ref sa]) ++ List.replicate (2 - (lg_sl ([.ref a, .ref sa])).length) Slot.unset).toArray = ls at hl2 ⊢
  have hl2 : lv_has ls 2 [(0, .ref a), (1, .ref sa)] := hl2
  refine W.exHead (cls := cls) (A := A) B.exec B.bytes hl (findClass_of_methodNamed B.named) (name_of_methodNamed B.named B.method).1 (fun w hw => hts w (hcls w hw)) hU hN hfound hk hcell (lv_at hl2 0 rfl) (hl2.1.trans hml.symm) dJ3_init_0 dJ3_init_1 dJ3_init_4 dJ3_init_5 dJ3_init_6 dJ3_init_9 dJ3_init_10 dJ3_init_13 dJ3_init_16 dJ3_init_17 dJ3_init_20 dJ3_init_23 dJ3_init_24 dJ3_init_27 (by decide) (by decide) fun H' C6 locs' g1 g2 g3 g4 g5 g6 g7 g8 => ?_
  refine lv_aload_n (k := 0) B.exec B.bytes dJ3_init_28 rfl (lv_at hl2 0 rfl) ?_
  refine lv_aload_n (k := 1) B.exec B.bytes dJ3_init_29 rfl (lv_at hl2 1 rfl) ?_
  refine W.exPut B.exec B.bytes (findClass_of_methodNamed B.named) (name_of_methodNamed B.named B.method).1 (hts _ (hcls _ (by simp [exW]))) g4 g1 g3 rfl dJ3_init_30 fun i => ?_
  refine W.vret B.exec B.bytes B.returns (fun t ht hw => ⟨rfl, ⟨C6.setSlot i (.ref sa), by rw [ht]; exact ex_get g1, g2, g3⟩, by rw [ht]; simpa using g6, fun q hq => by rw [ht, ex_ne hq]; exact g7 q hq⟩) (fun q hq => ?_) dJ3_init_33
  rcases List.mem_append.mp hq with hq | hq
  · exact g8 q hq
  · rw [List.mem_singleton] at hq; rw [hq]
theorem ex_thr2 {r : Option Nat} (hl : l.stackTraces = false) (hcls : ∀ w ∈ exW cls, w ∈ lw_all) : Met l yJ3_init_3 (ws_ yJ3_init_3 cJ3_init_3 3 none) (exRm 0) (va_Pc [.ref a, .ref sa, va_rf r] (exP cls cX a A)) (exQ cX a) 0 0 (fun q => q = a) := by
  refine Met.ofW (cc := cJ3_init_3) (maxL := 3) (ret := none) (by decide) rfl ?_
  intro p e s m args below meth c s₁ B hml hv
  obtain ⟨rfl, hfound, ⟨kX, hk, hcell⟩, hU, hN⟩ := hv
  have hts0 := atoms_spec (ws := ws_ yJ3_init_3 cJ3_init_3 3 none) B.pre
  have hts : ∀ w ∈ lw_all, w.before _ s = true := fun w h => hts0 w (List.mem_cons_of_mem _ h)
  have hl2 : ∃ ls, lv_has ls 3 [(0, .ref a), (1, .ref sa), (2, va_rf r)] ∧ entryFrame m ([.ref a, .ref sa, va_rf r] : List Value).toArray 3 = F0 m 0 ls [] := by
    have hl2 := lv_entry ([.ref a, .ref sa, va_rf r]) (n := 3) (by cases r <;> exact Nat.le_of_ble_eq_true rfl)
    refine ⟨_, ?_, lg_entry_eq _ _ _⟩
    cases r <;> exact hl2
  obtain ⟨ls, hl2, he⟩ := hl2
  rw [he]
  have hrr : (va_rf r).isRef = true := by cases r <;> rfl
  refine W.exHead (cls := cls) (A := A) B.exec B.bytes hl (findClass_of_methodNamed B.named) (name_of_methodNamed B.named B.method).1 (fun w hw => hts w (hcls w hw)) hU hN hfound hk hcell (lv_at hl2 0 rfl) (hl2.1.trans hml.symm) dJ3_init_3_0 dJ3_init_3_1 dJ3_init_3_4 dJ3_init_3_5 dJ3_init_3_6 dJ3_init_3_9 dJ3_init_3_10 dJ3_init_3_13 dJ3_init_3_16 dJ3_init_3_17 dJ3_init_3_20 dJ3_init_3_23 dJ3_init_3_24 dJ3_init_3_27 (by decide) (by decide) fun H' C6 locs' g1 g2 g3 g4 g5 g6 g7 g8 => ?_
  refine lv_aload_n (k := 0) B.exec B.bytes dJ3_init_3_28 rfl (lv_at hl2 0 rfl) ?_
  refine lv_aload_n (k := 1) B.exec B.bytes dJ3_init_3_29 rfl (lv_at hl2 1 rfl) ?_
  refine W.exPut B.exec B.bytes (findClass_of_methodNamed B.named) (name_of_methodNamed B.named B.method).1 (hts _ (hcls _ (by simp [exW]))) g4 g1 g3 rfl dJ3_init_3_30 fun i => ?_
  refine lv_aload_n (k := 0) B.exec B.bytes dJ3_init_3_33 rfl (lv_at hl2 0 rfl) ?_
  refine W.exLd (k := 2) (r := r) B.exec B.bytes dJ3_init_3_34 (lv_at hl2 2 rfl) ?_
  refine W.exPut B.exec B.bytes (findClass_of_methodNamed B.named) (name_of_methodNamed B.named B.method).1 (hts _ (hcls _ (by simp [exW]))) (g5.set i (.ref sa)) (ex_get g1) g3 hrr dJ3_init_3_35 fun i2 => ?_
  refine W.vret B.exec B.bytes B.returns (fun t ht hw => ⟨rfl, ⟨(C6.setSlot i (.ref sa)).setSlot i2 (va_rf r), by rw [ht]; exact ex_get (ex_get g1), g2, g3⟩, by rw [ht]; simpa using g6, fun q hq => by rw [ht, ex_ne hq, ex_ne hq]; exact g7 q hq⟩) (fun q hq => ?_) dJ3_init_3_38
  rcases List.mem_append.mp hq with hq | hq
  · rcases List.mem_append.mp hq with hq | hq
    · exact g8 q hq
    · rw [List.mem_singleton] at hq; rw [hq]
  · rw [List.mem_singleton] at hq; rw [hq]
end
