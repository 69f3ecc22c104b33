/-! SX 5: throw new Failed(text), throw new NoAnswer(text, cause), as rules -/
set_option maxRecDepth 100000
section
variable {g : qh_G} {d c : Nat} {I : qh_I} {cc : ByteArray} {pc : Nat} {ls : List (Option Value)} {τ : qh_H} {Q : qh_R → qh_H → Prop}
theorem ex_fresh {s : State} {H : Heap} {A : Nat → Prop} {locs : List Loc} {cls : String} {cC : ClassId} {kC : Class} (hS : va_S A s.heap H locs) (f1 : s.vm.findClass cls = some cC) (f2 : s.vm.classes[cC]? = some kC) (hU : vx_Zq Bundle.tN "UNASSIGNED_STACK" Bundle.steD A s s.heap) (hN : vx_Zq Bundle.tN "SUPPRESSED_SENTINEL" Bundle.listD A s s.heap) : exH cls cC H.size A s (H.push (freshCell cC kC)) := by
  have hq : ∀ q : Nat, q < s.heap.size → ¬ A q → (H.push (freshCell cC kC))[q]? = s.heap[q]? := fun q h1 h2 => by
    rw [Array.getElem?_push, if_neg (Nat.ne_of_lt (Nat.lt_of_lt_of_le h1 hS.1))]
    exact hS.2.1 q h1 h2
  exact ⟨f1, ⟨kC, f2, by rw [Array.getElem?_push_size]⟩, hU.kept hq, hN.kept hq⟩
/-- the exception leaves -/
theorem ex_leave {p : Program} {e0 : Env} {s : State} {m : MethodId} {args : Array Value} {below : List Frame} {meth : Method} {cd : Code} {lsA : Array Slot} {ws : va_W} {H H2 : Heap} {locs locs' : List Loc} {cells slots mc : Nat} {cls : String} {cC : ClassId} {kC : Class} {ce : Cell} (C : qh_C g I p s m args meth cd) (hT : qh_T τ ws) (hP : va_P g.2.1 qh_cl ws H) (hD : va_D g.2.2.1 ws) (hS : va_S g.2.2.1 s.heap H locs) (e : I.2.1 = cc) (f1 : s.vm.findClass cls = some cC) (g1 : H2[H.size]? = some ce) (g2 : ce.cls = cC) (g3 : ce.vm = .none) (g4 : H2.size = (H.push (freshCell cC kC)).size) (g5 : ∀ q, q ≠ H.size → H2[q]? = (H.push (freshCell cC kC))[q]?) (g6 : ∀ y ∈ locs', y ∈ locs ∨ y.base = H.size) (d9 : decode cc pc = .ok (.athrow, 1)) (hout : ∀ x ∈ tableOf I.2.2.2.2, covers x pc = false) (hq : Q (.inr cls) τ) (hc : cells ≤ mc) (hs : slots ≤ mc) : W p g.1 e0 (qh_room d mc) s m args below meth cd H2 locs' cells slots (vx_MQ below (qh_Qc g Q) (qh_Xc g Q) args s mc mc g.2.2.1) (F0 m pc lsA [.ref H.size]) := by
  have keep : ∀ q : Nat, q < H.size → H2[q]? = H[q]? := fun q hq => by
    rw [g5 q (Nat.ne_of_lt hq), Array.getElem?_push, if_neg (Nat.ne_of_lt hq)]
  have hz : H.size ≤ H2.size := by
    rw [g4, Array.size_push]
    omega
  refine vx_athrow C.1 (C.2.1.trans e) d9 ?_
  refine vx_out (E := cls) (ce := ce) (by rw [C.2.2.2.2.2.2.2.2.2.2.2.1]; exact hout) C.2.2.2.1 g1 g3 (by rw [g2]; exact f1) (fun t ht hvm => ?_) (fun z hz => ?_) hc hs
  · refine ⟨τ, hq, ⟨ws, hT, hP.kept fun k q hk9 => by rw [ht]; exact keep _ (hP k q hk9).lt, hD⟩, by rw [ht]; exact Nat.le_trans hS.1 hz, fun q q1 q2 => ?_⟩
    rw [ht, keep q (Nat.lt_of_lt_of_le q1 hS.1)]
    exact hS.2.1 q q1 q2
  · rcases g6 z hz with h | h
    · exact hS.2.2 z h
    · rw [h]
      exact C.2.2.2.2.2.2.2.2.2.1 _ hS.1
theorem qh_throwF {own text : String} {ik is ic sa : Nat} (e : I.2.1 = cc) (ho : I.1.cls = own) (hl : g.1.stackTraces = false) (hk : Cond.classLink own ik RX16 ∈ lw_all) (hins : Cond.instantiable RX16 6 ∈ lw_all) (hini : Cond.initialized RX16 ∈ lw_all) (hlk : Cond.methodLink own ic yX16_init ∈ lw_all) (hin : Cond.instanceMethod yX16_init ∈ lw_all) (hcd : Cond.code yX16_init cX16_init 2 none ∈ lw_all) (hstr : ∀ U, g.2.2.2.2 U → vk_R own is text sa U)
    (hU : ∀ U, g.2.2.2.2 U → vx_Zq Bundle.tN "UNASSIGNED_STACK" Bundle.steD g.2.2.1 U U.heap) (hN : ∀ U, g.2.2.2.2 U → vx_Zq Bundle.tN "SUPPRESSED_SENTINEL" Bundle.listD g.2.2.1 U U.heap)
    (d0 : decode cc pc = .ok (.new ik, 3)) (d3 : decode cc (pc + 3) = .ok (.dup, 1)) (d4 : decode cc (pc + 4) = .ok (.ldc_w is, 3)) (d7 : decode cc (pc + 7) = .ok (.invokespecial ic, 3)) (d10 : decode cc (pc + 10) = .ok (.athrow, 1))
    (hout : ∀ x ∈ tableOf I.2.2.2.2, covers x (pc + 10) = false) (hq : Q (.inr RX16) τ) : qh_wp g d (c + 6) I pc ls [] τ Q := by
  intro p e0 s m args below meth cd lsA ws H locs cells slots mc C hl' hc hT hP hD hS h1 h2
  have hts := C.2.2.2.2.2.2.1
  have hXs := C.2.2.2.2.2.2.2.2.1
  have hown : s.vm.findClass own = some m.cls := ho ▸ C.2.2.2.2.2.1
  refine W.newc C.1 (C.2.1.trans e) hown (hts _ hk) (hts _ hins) (hts _ hini) (g := F0 m pc lsA []) rfl d0 (by show cells + 1 ≤ mc; omega) (by show slots + 6 ≤ mc; omega) fun cC kC f1 f2 f3 f4 => ?_
  show W p g.1 e0 (qh_room d mc) s m args below meth cd (H.push (freshCell cC kC)) locs (cells + 1) (slots + 6) _ (F0 m (pc + 3) lsA [.ref H.size])
  refine lv_dup C.1 (C.2.1.trans e) d3 rfl ?_
  refine W.exLdcW C.1 (C.2.1.trans e) hown (hstr s hXs) d4 ?_
  refine W.exSup (vs := [.ref sa]) (rest := [.ref H.size]) C.1 (C.2.1.trans e) C.2.2.2.2.1 hown hts hl'.1 (ex_fail hl exW_X16) (cwI 1 hts (lw_meth hcd) rfl rfl rfl (hts _ hini) (hts _ hlk) (hts _ hin) rfl (by decide +kernel) ⟨by show 5 + 1 ≤ d + 10; omega, by show 8 + (2 + 11) + (40 * 2 + 60) ≤ 200 * d + 400; omega⟩) (ex_fresh hS f1 f2 (hU s hXs) (hN s hXs)) rfl (Nat.le_of_ble_eq_true rfl) d7 (by show cells + 1 ≤ mc; omega) (by show slots + 6 ≤ mc; omega) fun H1 ce locs' g1 g2 g3 g4 g5 g6 => ?_
  exact ex_leave C hT hP hD hS e f1 g1 g2 g3 g4 g5 g6 d10 hout hq (by omega) (by omega)
theorem qh_throwA {own text : String} {ik is ic sa n1 : Nat} {r : Option Nat} (e : I.2.1 = cc) (ho : I.1.cls = own) (hl : g.1.stackTraces = false) (hk : Cond.classLink own ik RX15 ∈ lw_all) (hins : Cond.instantiable RX15 6 ∈ lw_all) (hini : Cond.initialized RX15 ∈ lw_all) (hlk : Cond.methodLink own ic yX15_init ∈ lw_all) (hin : Cond.instanceMethod yX15_init ∈ lw_all) (hcd : Cond.code yX15_init cX15_init 3 none ∈ lw_all) (hstr : ∀ U, g.2.2.2.2 U → vk_R own is text sa U)
    (hU : ∀ U, g.2.2.2.2 U → vx_Zq Bundle.tN "UNASSIGNED_STACK" Bundle.steD g.2.2.1 U U.heap) (hN : ∀ U, g.2.2.2.2 U → vx_Zq Bundle.tN "SUPPRESSED_SENTINEL" Bundle.listD g.2.2.1 U U.heap)
    (d0 : decode cc pc = .ok (.new ik, 3)) (d3 : decode cc (pc + 3) = .ok (.dup, 1)) (d4 : decode cc (pc + 4) = .ok (.ldc_w is, 3)) (hld : (decode cc (pc + 7) = .ok (.aconst_null, 1) ∧ n1 = 1 ∧ r = none) ∨ ∃ k, decode cc (pc + 7) = .ok (.aload k, 2) ∧ n1 = 2 ∧ ls[k]? = some (some (va_rf r))) (d7 : decode cc (pc + 7 + n1) = .ok (.invokespecial ic, 3)) (d10 : decode cc (pc + 7 + n1 + 3) = .ok (.athrow, 1))
    (hout : ∀ x ∈ tableOf I.2.2.2.2, covers x (pc + 7 + n1 + 3) = false) (hq : Q (.inr RX15) τ) : qh_wp g d (c + 6) I pc ls [] τ Q := by
  intro p e0 s m args below meth cd lsA ws H locs cells slots mc C hl' hc hT hP hD hS h1 h2
  have hts := C.2.2.2.2.2.2.1
  have hXs := C.2.2.2.2.2.2.2.2.1
  have hown : s.vm.findClass own = some m.cls := ho ▸ C.2.2.2.2.2.1
  refine W.newc C.1 (C.2.1.trans e) hown (hts _ hk) (hts _ hins) (hts _ hini) (g := F0 m pc lsA []) rfl d0 (by show cells + 1 ≤ mc; omega) (by show slots + 6 ≤ mc; omega) fun cC kC f1 f2 f3 f4 => ?_
  show W p g.1 e0 (qh_room d mc) s m args below meth cd (H.push (freshCell cC kC)) locs (cells + 1) (slots + 6) _ (F0 m (pc + 3) lsA [.ref H.size])
  refine lv_dup C.1 (C.2.1.trans e) d3 rfl ?_
  refine W.exLdcW C.1 (C.2.1.trans e) hown (hstr s hXs) d4 ?_
  have go : W p g.1 e0 (qh_room d mc) s m args below meth cd (H.push (freshCell cC kC)) locs (cells + 1) (slots + 6) (vx_MQ below (qh_Qc g Q) (qh_Xc g Q) args s mc mc g.2.2.1) (F0 m (pc + 7 + n1) lsA [va_rf r, .ref sa, .ref H.size, .ref H.size]) := by
    refine W.exSup (vs := [.ref sa, va_rf r]) (rest := [.ref H.size]) C.1 (C.2.1.trans e) C.2.2.2.2.1 hown hts hl'.1 (ex_noan hl exW_X15) (cwI 2 hts (lw_meth hcd) rfl rfl rfl (hts _ hini) (hts _ hlk) (hts _ hin) rfl (by decide +kernel) ⟨by show 5 + 1 ≤ d + 10; omega, by show 8 + (3 + 11) + (40 * 2 + 60) ≤ 200 * d + 400; omega⟩) (ex_fresh hS f1 f2 (hU s hXs) (hN s hXs)) rfl (Nat.le_of_ble_eq_true rfl) d7 (by show cells + 1 ≤ mc; omega) (by show slots + 6 ≤ mc; omega) fun H1 ce locs' g1 g2 g3 g4 g5 g6 => ?_
    exact ex_leave C hT hP hD hS e f1 g1 g2 g3 g4 g5 g6 d10 hout hq (by omega) (by omega)
  rcases hld with ⟨dl, rfl, rfl⟩ | ⟨k, dl, rfl, hk9⟩
  · exact lv_null C.1 (C.2.1.trans e) dl go
  · cases r with
    | none => exact lv_aloadN C.1 (C.2.1.trans e) dl (qh_lv_at hl' hk9) go
    | some x => exact lv_aload C.1 (C.2.1.trans e) dl (qh_lv_at hl' hk9) go
end
