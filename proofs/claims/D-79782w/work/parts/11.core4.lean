/-! CORE 4 (printed by mk_model.py): the reference's state: scalars by field number, arrays by field number -/
set_option maxRecDepth 100000
abbrev qm_S : Type := (Nat → Int32) × (Nat → Nat → Int32)
/-- the world g, the heap ahead, the address of the object, of its arrays -/
abbrev qm_G : Type := qh_G × qh_H × Nat × (Nat → Nat)
def qm_len : Nat → Nat := fun k => match k with
  | 1 => 6
  | 2 => 72
  | 3 => 288
  | 4 => 6
  | 5 => 6
  | 9 => 3
  | 10 => 3
  | 11 => 3
  | 12 => 3
  | 13 => 3
  | 14 => 3
  | 15 => 3
  | 16 => 3
  | 17 => 3
  | 18 => 3
  | 19 => 3
  | 20 => 6
  | 21 => 6
  | 23 => 3
  | 25 => 3
  | 26 => 3
  | 27 => 3
  | 28 => 3
  | 30 => 4
  | 31 => 4
  | 32 => 4
  | 33 => 4
  | 35 => 3
  | 36 => 3
  | 40 => 6
  | 41 => 6
  | 42 => 6
  | 43 => 6
  | 44 => 6
  | 45 => 6
  | 46 => 72
  | 47 => 288
  | 48 => 6
  | 49 => 24
  | 50 => 24
  | 51 => 24
  | 56 => 3
  | 57 => 3
  | 58 => 36
  | 59 => 144
  | 60 => 3
  | 61 => 3
  | 64 => 12
  | 65 => 3
  | 66 => 144
  | 67 => 3
  | 70 => 120
  | 72 => 12
  | 73 => 12
  | 74 => 12
  | 77 => 120
  | 84 => 3
  | 86 => 4
  | 87 => 4
  | 88 => 4
  | 89 => 4
  | 90 => 4
  | 91 => 4
  | 92 => 4
  | 93 => 16
  | _ => 0
def qm_ty : Nat → Nat := fun k => match k with
  | 15 => 1
  | 56 => 1
  | _ => 0
def qm_ar : List Nat := [1, 2, 3, 4, 5, 9, 10, 11, 12, 13, 14, 15, 16, 17, 18, 19, 20, 21, 23, 25, 26, 27, 28, 30, 31, 32, 33, 35, 36, 40, 41, 42, 43, 44, 45, 46, 47, 48, 49, 50, 51, 56, 57, 58, 59, 60, 61, 64, 65, 66, 67, 70, 72, 73, 74, 77, 84, 86, 87, 88, 89, 90, 91, 92, 93]
def qm_fs (fa : Nat → Nat) (sc : Nat → Int32) : List Value := [.int (sc 0), .ref (fa 1), .ref (fa 2), .ref (fa 3), .ref (fa 4), .ref (fa 5), .int (sc 6), .int (sc 7), .int (sc 8), .ref (fa 9), .ref (fa 10), .ref (fa 11), .ref (fa 12), .ref (fa 13), .ref (fa 14), .ref (fa 15), .ref (fa 16), .ref (fa 17), .ref (fa 18), .ref (fa 19), .ref (fa 20), .ref (fa 21), .int (sc 22), .ref (fa 23), .int (sc 24), .ref (fa 25), .ref (fa 26), .ref (fa 27), .ref (fa 28), .int (sc 29), .ref (fa 30), .ref (fa 31), .ref (fa 32), .ref (fa 33), .int (sc 34), .ref (fa 35), .ref (fa 36), .int (sc 37), .int (sc 38), .int (sc 39), .ref (fa 40), .ref (fa 41), .ref (fa 42), .ref (fa 43), .ref (fa 44), .ref (fa 45), .ref (fa 46), .ref (fa 47), .ref (fa 48), .ref (fa 49), .ref (fa 50), .ref (fa 51), .int (sc 52), .int (sc 53), .int (sc 54), .int (sc 55), .ref (fa 56), .ref (fa 57), .ref (fa 58), .ref (fa 59), .ref (fa 60), .ref (fa 61), .int (sc 62), .int (sc 63), .ref (fa 64), .ref (fa 65), .ref (fa 66), .ref (fa 67), .int (sc 68), .int (sc 69), .ref (fa 70), .int (sc 71), .ref (fa 72), .ref (fa 73), .ref (fa 74), .int (sc 75), .int (sc 76), .ref (fa 77), .int (sc 78), .int (sc 79), .int (sc 80), .int (sc 81), .int (sc 82), .int (sc 83), .ref (fa 84), .int (sc 85), .ref (fa 86), .ref (fa 87), .ref (fa 88), .ref (fa 89), .ref (fa 90), .ref (fa 91), .ref (fa 92), .ref (fa 93)]
def qm_uA (f : Nat → Nat → Int32) (k : Nat) (h : Nat → Int32) : Nat → Nat → Int32 := fun j => if j = k then h else f j
def qm_R (M : qm_G) (S : qm_S) (τ : qh_H) : Prop := τ M.2.2.1 = some (.inr (7, qm_fs M.2.2.2 S.1)) ∧ (∀ k, k ∈ qm_ar → τ (M.2.2.2 k) = some (.inl (M.1.2.2.2.1 (qm_ty k), qm_len k, .inl (S.2 k)))) ∧ (∀ j k, j ∈ qm_ar → k ∈ qm_ar → M.2.2.2 j = M.2.2.2 k → j = k) ∧ (∀ a, a ≠ M.2.2.1 → (∀ k, k ∈ qm_ar → a ≠ M.2.2.2 k) → τ a = M.2.1 a)
def qm_Q (M : qm_G) (Q : Option Value → qm_S → Prop) : qh_R → qh_H → Prop := fun r t => ∃ (v : Option Value) (S : qm_S), r = .inl v ∧ qm_R M S t ∧ Q v S
def qm_wp (M : qm_G) (d : Nat) (I : qh_I) (pc : Nat) (ls : List (Option Value)) (st : List Value) (S : qm_S) (Q : Option Value → qm_S → Prop) : Prop := ∀ τ : qh_H, qm_R M S τ → qh_wp M.1 d 0 I pc ls st τ (qm_Q M Q)
def qm_C (M : qm_G) (d : Nat) (I : qh_I) (As : List Value) (S : qm_S) (Q : Option Value → qm_S → Prop) : Prop := ∀ τ : qh_H, qm_R M S τ → qh_S M.1 d 0 I As τ (qm_Q M Q)
theorem qm_ck : qh_K 7 RX8 TX8 94 tyX8 := ⟨rfl, in_X8, tyX8_ok, nmX8⟩
section
variable {M : qm_G} {d : Nat} {I : qh_I} {cc : ByteArray} {pc : Nat} {ls : List (Option Value)} {st : List Value} {S : qm_S} {Q : Option Value → qm_S → Prop}
theorem qm_wp.mono {Q' : Option Value → qm_S → Prop} (h : ∀ v S, Q v S → Q' v S) (k : qm_wp M d I pc ls st S Q) : qm_wp M d I pc ls st S Q' := fun τ hR => (k τ hR).mono fun r t ⟨v, S', e, hR', hq⟩ => ⟨v, S', e, hR', h v S' hq⟩
theorem qm_R.put {τ : qh_H} {k : Nat} (h : qm_R M S τ) (hk : k ∈ qm_ar) (f : Nat → Int32) : qm_R M (S.1, qm_uA S.2 k f) (qh_upd τ (M.2.2.2 k) (.inl (M.1.2.2.2.1 (qm_ty k), qm_len k, .inl f))) := by
  obtain ⟨h1, h2, h3, h4⟩ := h
  have hne : M.2.2.1 ≠ M.2.2.2 k := by
    intro e
    have := h2 k hk
    rw [← e, h1] at this
    cases this
  refine ⟨by rw [qh_upd_n hne]; exact h1, fun j hj => ?_, h3, fun a ha hb => by rw [qh_upd_n (hb k hk)]; exact h4 a ha hb⟩
  by_cases e : j = k
  · subst e
    rw [qh_upd_s]
    unfold qm_uA
    simp
  · rw [qh_upd_n (fun z => e (h3 j k hj hk z))]
    unfold qm_uA
    simp only [if_neg e]
    exact h2 j hj
theorem qm_R.putS {τ : qh_H} {x : Nat → Int32} (h : qm_R M S τ) : qm_R M (x, S.2) (qh_upd τ M.2.2.1 (.inr (7, qm_fs M.2.2.2 x))) := by
  obtain ⟨h1, h2, h3, h4⟩ := h
  refine ⟨qh_upd_s, fun j hj => ?_, h3, fun a ha hb => by rw [qh_upd_n ha]; exact h4 a ha hb⟩
  have hne : M.2.2.2 j ≠ M.2.2.1 := by
    intro e
    have := h2 j hj
    rw [e, h1] at this
    cases this
  rw [qh_upd_n hne]
  exact h2 j hj
theorem qm_get {own : String} {index : Nat} (e : I.2.1 = cc) (ho : I.1.cls = own) (k : Nat) (hk : k < 94) (q : Cond.fieldLink own index (TX8 k).1 (TX8 k).2.1 (TX8 k).2.2.1 ∈ lw_all) {v : Value} (hv : (qm_fs M.2.2.2 S.1)[k]? = some v) (hd : decode cc pc = .ok (.getfield index, 3)) (kk : qm_wp M d I (pc + 3) ls (v :: st) S Q) : qm_wp M d I pc ls (.ref M.2.2.1 :: st) S Q := fun τ hR => qh_getf e ho qm_ck k hk q hR.1 hv hd (kk τ hR)
theorem qm_put {own : String} {index : Nat} {x : Int32} (e : I.2.1 = cc) (ho : I.1.cls = own) (k : Nat) (hk : k < 94) (q : Cond.fieldLink own index (TX8 k).1 (TX8 k).2.1 (TX8 k).2.2.1 ∈ lw_all) (hf : (TX8 k).2.2.2 = false) (hn : narrow (tyX8 k) (.int x) = .int x) (hfit : fits (tyX8 k) (.int x) = true) (hs : (qm_fs M.2.2.2 S.1).set k (.int x) = qm_fs M.2.2.2 (upd S.1 k x)) (hd : decode cc pc = .ok (.putfield index, 3)) (kk : qm_wp M d I (pc + 3) ls st (upd S.1 k x, S.2) Q) : qm_wp M d I pc ls (.int x :: .ref M.2.2.1 :: st) S Q := fun τ hR => qh_putf e ho qm_ck k hk q hf hn hfit hR.1 hk hd (by rw [hs]; exact kk _ (hR.putS))
theorem qm_iald {i : Int32} (e : I.2.1 = cc) (k : Nat) (hk : k ∈ qm_ar) (ht : qm_ty k = 0) (hin : vp_in i (qm_len k)) (hd : decode cc pc = .ok (.iaload, 1)) (kk : qm_wp M d I (pc + 1) ls (.int (S.2 k i.toNatClampNeg) :: st) S Q) : qm_wp M d I pc ls (.int i :: .ref (M.2.2.2 k) :: st) S Q := fun τ hR => qh_iald e (by have := hR.2.1 k hk; rw [ht] at this; exact this) hin hd (kk τ hR)
theorem qm_zald {i : Int32} (e : I.2.1 = cc) (k : Nat) (hk : k ∈ qm_ar) (ht : qm_ty k = 1) (hin : vp_in i (qm_len k)) (hd : decode cc pc = .ok (.baload, 1)) (kk : qm_wp M d I (pc + 1) ls (.int (S.2 k i.toNatClampNeg) :: st) S Q) : qm_wp M d I pc ls (.int i :: .ref (M.2.2.2 k) :: st) S Q := fun τ hR => qh_zald e (by have := hR.2.1 k hk; rw [ht] at this; exact this) hin hd (kk τ hR)
theorem qm_ialdV {i : Int32} {k : Nat} (v : Int32) (hv : S.2 k i.toNatClampNeg = v) (e : I.2.1 = cc)  (hk : k ∈ qm_ar) (ht : qm_ty k = 0) (hin : vp_in i (qm_len k)) (hd : decode cc pc = .ok (.iaload, 1)) (kk : qm_wp M d I (pc + 1) ls (.int v :: st) S Q) : qm_wp M d I pc ls (.int i :: .ref (M.2.2.2 k) :: st) S Q := by
  subst hv; exact qm_iald e k hk ht hin hd kk
theorem qm_zaldV {i : Int32} {k : Nat} (v : Int32) (hv : S.2 k i.toNatClampNeg = v) (e : I.2.1 = cc)  (hk : k ∈ qm_ar) (ht : qm_ty k = 1) (hin : vp_in i (qm_len k)) (hd : decode cc pc = .ok (.baload, 1)) (kk : qm_wp M d I (pc + 1) ls (.int v :: st) S Q) : qm_wp M d I pc ls (.int i :: .ref (M.2.2.2 k) :: st) S Q := by
  subst hv; exact qm_zald e k hk ht hin hd kk
theorem qm_iast {i x : Int32} (e : I.2.1 = cc) (k : Nat) (hk : k ∈ qm_ar) (ht : qm_ty k = 0) (hin : vp_in i (qm_len k)) (hd : decode cc pc = .ok (.iastore, 1)) (kk : qm_wp M d I (pc + 1) ls st (S.1, qm_uA S.2 k (upd (S.2 k) i.toNatClampNeg x)) Q) : qm_wp M d I pc ls (.int x :: .int i :: .ref (M.2.2.2 k) :: st) S Q := fun τ hR => qh_iast e (by have := hR.2.1 k hk; rw [ht] at this; exact this) hin hd (kk _ (by have := hR.put hk (upd (S.2 k) i.toNatClampNeg x); rw [ht] at this; exact this))
theorem qm_zast {i x : Int32} (e : I.2.1 = cc) (k : Nat) (hk : k ∈ qm_ar) (ht : qm_ty k = 1) (hx : vp_nar .boolean x = x) (hin : vp_in i (qm_len k)) (hd : decode cc pc = .ok (.bastore, 1)) (kk : qm_wp M d I (pc + 1) ls st (S.1, qm_uA S.2 k (upd (S.2 k) i.toNatClampNeg x)) Q) : qm_wp M d I pc ls (.int x :: .int i :: .ref (M.2.2.2 k) :: st) S Q := fun τ hR => qh_zast e (by have := hR.2.1 k hk; rw [ht] at this; exact this) hin hd (by rw [hx]; exact kk _ (by have := hR.put hk (upd (S.2 k) i.toNatClampNeg x); rw [ht] at this; exact this))
theorem qm_iret {v : Int32} (e : I.2.1 = cc) (hr : I.2.2.2.1 = some .int) (hd : decode cc pc = .ok (.ireturn, 1)) (h : Q (some (.int v)) S) : qm_wp M d I pc ls [.int v] S Q := fun τ hR => qh_iret e hr hd ⟨_, S, rfl, hR, h⟩
theorem qm_zret {v : Int32} (e : I.2.1 = cc) (hr : I.2.2.2.1 = some .boolean) (hn : narrow .boolean (.int v) = .int v) (hd : decode cc pc = .ok (.ireturn, 1)) (h : Q (some (.int v)) S) : qm_wp M d I pc ls [.int v] S Q := fun τ hR => qh_zret e hr hn hd ⟨_, S, rfl, hR, h⟩
theorem qm_vret (e : I.2.1 = cc) (hr : I.2.2.2.1 = none) (hd : decode cc pc = .ok (.return_, 1)) (h : Q none S) : qm_wp M d I pc ls [] S Q := fun τ hR => qh_vret e hr hd ⟨_, S, rfl, hR, h⟩
theorem qm_callV {own : String} {J : qh_I} {n index : Nat} {As stk rest : List Value} (e : I.2.1 = cc) (ho : I.1.cls = own) (hJ : qh_M J n) (h0 : J.2.2.2.2 = []) (q1 : Cond.methodLink own index J.1 ∈ lw_all) (q2 : Cond.instanceMethod J.1 ∈ lw_all) (q3 : Cond.selects J.1.cls J.1 J.1 ∈ lw_all) (hrc : RX8 = J.1.cls) (hn : As.length = n) (hs : stk = As.reverse ++ .ref M.2.2.1 :: rest) (hw : (rest.map fun v => v.category).sum ≤ 8) (hd : decode cc pc = .ok (.invokevirtual index, 3)) (kk : qm_C M d J (.ref M.2.2.1 :: As) S (fun v S' => qm_wp M (d + 1) I (pc + 3) ls (v.toList ++ rest) S' Q)) : qm_wp M (d + 1) I pc ls stk S Q := fun τ hR => qh_callV (c := 0) (k := 0) (ci := 7) e ho hJ h0 q1 q2 q3 rfl hrc hR.1 hn hs hw hd (by
  have := kk τ hR
  refine qh_S.mono ?_ this
  rintro r t ⟨v, S', rfl, hR', hq⟩
  exact hq t hR')
theorem qm_callS {own : String} {J : qh_I} {n index : Nat} {As stk rest : List Value} (e : I.2.1 = cc) (ho : I.1.cls = own) (hJ : qh_M J n) (h0 : J.2.2.2.2 = []) (q1 : Cond.methodLink own index J.1 ∈ lw_all) (q2 : Cond.static J.1 ∈ lw_all) (hn : As.length = n) (hs : stk = As.reverse ++ rest) (hw : (rest.map fun v => v.category).sum ≤ 8) (hd : decode cc pc = .ok (.invokestatic index, 3)) (kk : qm_C M d J As S (fun v S' => qm_wp M (d + 1) I (pc + 3) ls (v.toList ++ rest) S' Q)) : qm_wp M (d + 1) I pc ls stk S Q := fun τ hR => qh_callS (c := 0) (k := 0) e ho hJ h0 q1 q2 hn hs hw hd (by
  have := kk τ hR
  refine qh_S.mono ?_ this
  rintro r t ⟨v, S', rfl, hR', hq⟩
  exact hq t hR')
theorem qm_C.of {As : List Value} (hy : plainName I.1.cls = true) (h0 : I.2.2.2.2 = []) (hls : ls = As.map some ++ List.replicate (I.2.2.1 - As.length) none) (hlen : As.length ≤ I.2.2.1) (hcat : ∀ v ∈ As, v.category = 1) (k : qm_wp M d I 0 ls [] S Q) : qm_C M d I As S Q := fun τ hR => qh_S.of hy h0 hls hlen hcat (k τ hR)
theorem qm_C.mono {As : List Value} {Q' : Option Value → qm_S → Prop} (h : ∀ v S, Q v S → Q' v S) (k : qm_C M d I As S Q) : qm_C M d I As S Q' := fun τ hR => qh_S.mono (fun r t ⟨v, S', e, hR', hq⟩ => ⟨v, S', e, hR', h v S' hq⟩) (k τ hR)
theorem qm_drop (i : Nat) (k : qm_wp M d I pc (ls.set i none) st S Q) : qm_wp M d I pc ls st S Q := fun τ hR => qh_drop i (k τ hR)
theorem qm_iconst (e : I.2.1 = cc) {n : Int} (v : Int32) (hv : Int32.ofInt n = v) (hd : decode cc pc = .ok (.iconst n, 1)) (k : qm_wp M d I (pc + 1) ls (.int v :: st) S Q) : qm_wp M d I pc ls st S Q := fun τ hR => qh_iconst e v hv hd (k τ hR)
theorem qm_bipush (e : I.2.1 = cc) {n : Int} (v : Int32) (hv : (Int8.ofInt n).toInt32 = v) (hd : decode cc pc = .ok (.bipush n, 2)) (k : qm_wp M d I (pc + 2) ls (.int v :: st) S Q) : qm_wp M d I pc ls st S Q := fun τ hR => qh_bipush e v hv hd (k τ hR)
theorem qm_sipush (e : I.2.1 = cc) {n : Int} (v : Int32) (hv : (Int16.ofInt n).toInt32 = v) (hd : decode cc pc = .ok (.sipush n, 3)) (k : qm_wp M d I (pc + 3) ls (.int v :: st) S Q) : qm_wp M d I pc ls st S Q := fun τ hR => qh_sipush e v hv hd (k τ hR)
theorem qm_iload_n (e : I.2.1 = cc) {k0 : Fin 4} {x : Int32} (hx : ls[(k0 : Nat)]? = some (some (.int x))) (hd : decode cc pc = .ok (.iload_n k0, 1)) (k : qm_wp M d I (pc + 1) ls (.int x :: st) S Q) : qm_wp M d I pc ls st S Q := fun τ hR => qh_iload_n e hx hd (k τ hR)
theorem qm_iload (e : I.2.1 = cc) {i : Nat} {x : Int32} (hx : ls[i]? = some (some (.int x))) (hd : decode cc pc = .ok (.iload i, 2)) (k : qm_wp M d I (pc + 2) ls (.int x :: st) S Q) : qm_wp M d I pc ls st S Q := fun τ hR => qh_iload e hx hd (k τ hR)
theorem qm_aload_n (e : I.2.1 = cc) {k0 : Fin 4} {x : Nat} (hx : ls[(k0 : Nat)]? = some (some (.ref x))) (hd : decode cc pc = .ok (.aload_n k0, 1)) (k : qm_wp M d I (pc + 1) ls (.ref x :: st) S Q) : qm_wp M d I pc ls st S Q := fun τ hR => qh_aload_n e hx hd (k τ hR)
theorem qm_aload (e : I.2.1 = cc) {i : Nat} {x : Nat} (hx : ls[i]? = some (some (.ref x))) (hd : decode cc pc = .ok (.aload i, 2)) (k : qm_wp M d I (pc + 2) ls (.ref x :: st) S Q) : qm_wp M d I pc ls st S Q := fun τ hR => qh_aload e hx hd (k τ hR)
theorem qm_istore_n (e : I.2.1 = cc) {k0 : Fin 4} {x : Int32} (hn : (k0 : Nat) < I.2.2.1) (hd : decode cc pc = .ok (.istore_n k0, 1)) (k : qm_wp M d I (pc + 1) (ls.set (k0 : Nat) (some (.int x))) st S Q) : qm_wp M d I pc ls (.int x :: st) S Q := fun τ hR => qh_istore_n e hn hd (k τ hR)
theorem qm_astore_n (e : I.2.1 = cc) {k0 : Fin 4} {x : Nat} (hn : (k0 : Nat) < I.2.2.1) (hd : decode cc pc = .ok (.astore_n k0, 1)) (k : qm_wp M d I (pc + 1) (ls.set (k0 : Nat) (some (.ref x))) st S Q) : qm_wp M d I pc ls (.ref x :: st) S Q := fun τ hR => qh_astore_n e hn hd (k τ hR)
theorem qm_istore (e : I.2.1 = cc) {i : Nat} {x : Int32} (hn : i < I.2.2.1) (hd : decode cc pc = .ok (.istore i, 2)) (k : qm_wp M d I (pc + 2) (ls.set i (some (.int x))) st S Q) : qm_wp M d I pc ls (.int x :: st) S Q := fun τ hR => qh_istore e hn hd (k τ hR)
theorem qm_astore (e : I.2.1 = cc) {i : Nat} {x : Nat} (hn : i < I.2.2.1) (hd : decode cc pc = .ok (.astore i, 2)) (k : qm_wp M d I (pc + 2) (ls.set i (some (.ref x))) st S Q) : qm_wp M d I pc ls (.ref x :: st) S Q := fun τ hR => qh_astore e hn hd (k τ hR)
theorem qm_iinc (e : I.2.1 = cc) {i : Nat} {n : Int} {x : Int32} (v : Int32) (hx : ls[i]? = some (some (.int x))) (hv : Int32.ofInt n = v) (hn : i < I.2.2.1) (hd : decode cc pc = .ok (.iinc i n, 3)) (k : qm_wp M d I (pc + 3) (ls.set i (some (.int (x + v)))) st S Q) : qm_wp M d I pc ls st S Q := fun τ hR => qh_iinc e v hx hv hn hd (k τ hR)
theorem qm_iadd (e : I.2.1 = cc) {x y : Int32} (hd : decode cc pc = .ok (.iadd, 1)) (k : qm_wp M d I (pc + 1) ls (.int (x + y) :: st) S Q) : qm_wp M d I pc ls (.int y :: .int x :: st) S Q := fun τ hR => qh_iadd e hd (k τ hR)
theorem qm_isub (e : I.2.1 = cc) {x y : Int32} (hd : decode cc pc = .ok (.isub, 1)) (k : qm_wp M d I (pc + 1) ls (.int (x - y) :: st) S Q) : qm_wp M d I pc ls (.int y :: .int x :: st) S Q := fun τ hR => qh_isub e hd (k τ hR)
theorem qm_imul (e : I.2.1 = cc) {x y : Int32} (hd : decode cc pc = .ok (.imul, 1)) (k : qm_wp M d I (pc + 1) ls (.int (x * y) :: st) S Q) : qm_wp M d I pc ls (.int y :: .int x :: st) S Q := fun τ hR => qh_imul e hd (k τ hR)
theorem qm_iand (e : I.2.1 = cc) {x y : Int32} (hd : decode cc pc = .ok (.iand, 1)) (k : qm_wp M d I (pc + 1) ls (.int (x &&& y) :: st) S Q) : qm_wp M d I pc ls (.int y :: .int x :: st) S Q := fun τ hR => qh_iand e hd (k τ hR)
theorem qm_ior (e : I.2.1 = cc) {x y : Int32} (hd : decode cc pc = .ok (.ior, 1)) (k : qm_wp M d I (pc + 1) ls (.int (x ||| y) :: st) S Q) : qm_wp M d I pc ls (.int y :: .int x :: st) S Q := fun τ hR => qh_ior e hd (k τ hR)
theorem qm_ixor (e : I.2.1 = cc) {x y : Int32} (hd : decode cc pc = .ok (.ixor, 1)) (k : qm_wp M d I (pc + 1) ls (.int (x ^^^ y) :: st) S Q) : qm_wp M d I pc ls (.int y :: .int x :: st) S Q := fun τ hR => qh_ixor e hd (k τ hR)
theorem qm_ishl (e : I.2.1 = cc) {x y : Int32} (hd : decode cc pc = .ok (.ishl, 1)) (k : qm_wp M d I (pc + 1) ls (.int (x <<< (y &&& 31)) :: st) S Q) : qm_wp M d I pc ls (.int y :: .int x :: st) S Q := fun τ hR => qh_ishl e hd (k τ hR)
theorem qm_ishr (e : I.2.1 = cc) {x y : Int32} (hd : decode cc pc = .ok (.ishr, 1)) (k : qm_wp M d I (pc + 1) ls (.int (x >>> (y &&& 31)) :: st) S Q) : qm_wp M d I pc ls (.int y :: .int x :: st) S Q := fun τ hR => qh_ishr e hd (k τ hR)
theorem qm_ineg (e : I.2.1 = cc) {x : Int32} (hd : decode cc pc = .ok (.ineg, 1)) (k : qm_wp M d I (pc + 1) ls (.int (-x) :: st) S Q) : qm_wp M d I pc ls (.int x :: st) S Q := fun τ hR => qh_ineg e hd (k τ hR)
theorem qm_idiv (e : I.2.1 = cc) {x y : Int32} (hne : ¬ y = 0) (hd : decode cc pc = .ok (.idiv, 1)) (k : qm_wp M d I (pc + 1) ls (.int (x / y) :: st) S Q) : qm_wp M d I pc ls (.int y :: .int x :: st) S Q := fun τ hR => qh_idiv e hne hd (k τ hR)
theorem qm_irem (e : I.2.1 = cc) {x y : Int32} (hne : ¬ y = 0) (hd : decode cc pc = .ok (.irem, 1)) (k : qm_wp M d I (pc + 1) ls (.int (x - x / y * y) :: st) S Q) : qm_wp M d I pc ls (.int y :: .int x :: st) S Q := fun τ hR => qh_irem e hne hd (k τ hR)
theorem qm_dup (e : I.2.1 = cc) {v : Value} (hva : v.category = 1) (hd : decode cc pc = .ok (.dup, 1)) (k : qm_wp M d I (pc + 1) ls (v :: v :: st) S Q) : qm_wp M d I pc ls (v :: st) S Q := fun τ hR => qh_dup e hva hd (k τ hR)
theorem qm_pop (e : I.2.1 = cc) {v : Value} (hva : v.category = 1) (hd : decode cc pc = .ok (.pop, 1)) (k : qm_wp M d I (pc + 1) ls st S Q) : qm_wp M d I pc ls (v :: st) S Q := fun τ hR => qh_pop e hva hd (k τ hR)
theorem qm_dup2 (e : I.2.1 = cc) {v w : Value} (hva : v.category = 1) (hvb : w.category = 1) (hd : decode cc pc = .ok (.dup2, 1)) (k : qm_wp M d I (pc + 1) ls (v :: w :: v :: w :: st) S Q) : qm_wp M d I pc ls (v :: w :: st) S Q := fun τ hR => qh_dup2 e hva hvb hd (k τ hR)
theorem qm_dup_x1 (e : I.2.1 = cc) {v w : Value} (hva : v.category = 1) (hvb : w.category = 1) (hd : decode cc pc = .ok (.dup_x1, 1)) (k : qm_wp M d I (pc + 1) ls (v :: w :: v :: st) S Q) : qm_wp M d I pc ls (v :: w :: st) S Q := fun τ hR => qh_dup_x1 e hva hvb hd (k τ hR)
theorem qm_if_eq (e : I.2.1 = cc) {x : Int32} {off : Int} (tgt : Nat) (hd : decode cc pc = .ok (.ifCond .eq off, 3)) (ht : (pc : Int) + off = (tgt : Int)) (kt : x = 0 → qm_wp M d I tgt ls st S Q) (kf : ¬ x = 0 → qm_wp M d I (pc + 3) ls st S Q) : qm_wp M d I pc ls (.int x :: st) S Q := fun τ hR => qh_if_eq e tgt hd ht (fun q9 => kt q9 τ hR) (fun q9 => kf q9 τ hR)
theorem qm_icmp_eq (e : I.2.1 = cc) {x y : Int32} {off : Int} (tgt : Nat) (hd : decode cc pc = .ok (.if_icmp .eq off, 3)) (ht : (pc : Int) + off = (tgt : Int)) (kt : x = y → qm_wp M d I tgt ls st S Q) (kf : ¬ x = y → qm_wp M d I (pc + 3) ls st S Q) : qm_wp M d I pc ls (.int y :: .int x :: st) S Q := fun τ hR => qh_icmp_eq e tgt hd ht (fun q9 => kt q9 τ hR) (fun q9 => kf q9 τ hR)
theorem qm_if_ne (e : I.2.1 = cc) {x : Int32} {off : Int} (tgt : Nat) (hd : decode cc pc = .ok (.ifCond .ne off, 3)) (ht : (pc : Int) + off = (tgt : Int)) (kt : ¬ x = 0 → qm_wp M d I tgt ls st S Q) (kf : x = 0 → qm_wp M d I (pc + 3) ls st S Q) : qm_wp M d I pc ls (.int x :: st) S Q := fun τ hR => qh_if_ne e tgt hd ht (fun q9 => kt q9 τ hR) (fun q9 => kf q9 τ hR)
theorem qm_icmp_ne (e : I.2.1 = cc) {x y : Int32} {off : Int} (tgt : Nat) (hd : decode cc pc = .ok (.if_icmp .ne off, 3)) (ht : (pc : Int) + off = (tgt : Int)) (kt : ¬ x = y → qm_wp M d I tgt ls st S Q) (kf : x = y → qm_wp M d I (pc + 3) ls st S Q) : qm_wp M d I pc ls (.int y :: .int x :: st) S Q := fun τ hR => qh_icmp_ne e tgt hd ht (fun q9 => kt q9 τ hR) (fun q9 => kf q9 τ hR)
theorem qm_if_lt (e : I.2.1 = cc) {x : Int32} {off : Int} (tgt : Nat) (hd : decode cc pc = .ok (.ifCond .lt off, 3)) (ht : (pc : Int) + off = (tgt : Int)) (kt : x < 0 → qm_wp M d I tgt ls st S Q) (kf : ¬ x < 0 → qm_wp M d I (pc + 3) ls st S Q) : qm_wp M d I pc ls (.int x :: st) S Q := fun τ hR => qh_if_lt e tgt hd ht (fun q9 => kt q9 τ hR) (fun q9 => kf q9 τ hR)
theorem qm_icmp_lt (e : I.2.1 = cc) {x y : Int32} {off : Int} (tgt : Nat) (hd : decode cc pc = .ok (.if_icmp .lt off, 3)) (ht : (pc : Int) + off = (tgt : Int)) (kt : x < y → qm_wp M d I tgt ls st S Q) (kf : ¬ x < y → qm_wp M d I (pc + 3) ls st S Q) : qm_wp M d I pc ls (.int y :: .int x :: st) S Q := fun τ hR => qh_icmp_lt e tgt hd ht (fun q9 => kt q9 τ hR) (fun q9 => kf q9 τ hR)
theorem qm_if_ge (e : I.2.1 = cc) {x : Int32} {off : Int} (tgt : Nat) (hd : decode cc pc = .ok (.ifCond .ge off, 3)) (ht : (pc : Int) + off = (tgt : Int)) (kt : 0 ≤ x → qm_wp M d I tgt ls st S Q) (kf : ¬ 0 ≤ x → qm_wp M d I (pc + 3) ls st S Q) : qm_wp M d I pc ls (.int x :: st) S Q := fun τ hR => qh_if_ge e tgt hd ht (fun q9 => kt q9 τ hR) (fun q9 => kf q9 τ hR)
theorem qm_icmp_ge (e : I.2.1 = cc) {x y : Int32} {off : Int} (tgt : Nat) (hd : decode cc pc = .ok (.if_icmp .ge off, 3)) (ht : (pc : Int) + off = (tgt : Int)) (kt : y ≤ x → qm_wp M d I tgt ls st S Q) (kf : ¬ y ≤ x → qm_wp M d I (pc + 3) ls st S Q) : qm_wp M d I pc ls (.int y :: .int x :: st) S Q := fun τ hR => qh_icmp_ge e tgt hd ht (fun q9 => kt q9 τ hR) (fun q9 => kf q9 τ hR)
theorem qm_if_gt (e : I.2.1 = cc) {x : Int32} {off : Int} (tgt : Nat) (hd : decode cc pc = .ok (.ifCond .gt off, 3)) (ht : (pc : Int) + off = (tgt : Int)) (kt : 0 < x → qm_wp M d I tgt ls st S Q) (kf : ¬ 0 < x → qm_wp M d I (pc + 3) ls st S Q) : qm_wp M d I pc ls (.int x :: st) S Q := fun τ hR => qh_if_gt e tgt hd ht (fun q9 => kt q9 τ hR) (fun q9 => kf q9 τ hR)
theorem qm_icmp_gt (e : I.2.1 = cc) {x y : Int32} {off : Int} (tgt : Nat) (hd : decode cc pc = .ok (.if_icmp .gt off, 3)) (ht : (pc : Int) + off = (tgt : Int)) (kt : y < x → qm_wp M d I tgt ls st S Q) (kf : ¬ y < x → qm_wp M d I (pc + 3) ls st S Q) : qm_wp M d I pc ls (.int y :: .int x :: st) S Q := fun τ hR => qh_icmp_gt e tgt hd ht (fun q9 => kt q9 τ hR) (fun q9 => kf q9 τ hR)
theorem qm_if_le (e : I.2.1 = cc) {x : Int32} {off : Int} (tgt : Nat) (hd : decode cc pc = .ok (.ifCond .le off, 3)) (ht : (pc : Int) + off = (tgt : Int)) (kt : x ≤ 0 → qm_wp M d I tgt ls st S Q) (kf : ¬ x ≤ 0 → qm_wp M d I (pc + 3) ls st S Q) : qm_wp M d I pc ls (.int x :: st) S Q := fun τ hR => qh_if_le e tgt hd ht (fun q9 => kt q9 τ hR) (fun q9 => kf q9 τ hR)
theorem qm_icmp_le (e : I.2.1 = cc) {x y : Int32} {off : Int} (tgt : Nat) (hd : decode cc pc = .ok (.if_icmp .le off, 3)) (ht : (pc : Int) + off = (tgt : Int)) (kt : x ≤ y → qm_wp M d I tgt ls st S Q) (kf : ¬ x ≤ y → qm_wp M d I (pc + 3) ls st S Q) : qm_wp M d I pc ls (.int y :: .int x :: st) S Q := fun τ hR => qh_icmp_le e tgt hd ht (fun q9 => kt q9 τ hR) (fun q9 => kf q9 τ hR)
theorem qm_goto (e : I.2.1 = cc) {off : Int} (tgt : Nat) (hd : decode cc pc = .ok (.goto off, 3)) (ht : (pc : Int) + off = (tgt : Int)) (k : qm_wp M d I tgt ls st S Q) : qm_wp M d I pc ls st S Q := fun τ hR => qh_goto e tgt hd ht (k τ hR)
theorem qm_tableIn (e : I.2.1 = cc) {dflt lo hi : Int} {offs : Array Int} {len : Nat} {x : Int32} {off : Int} (tgt : Nat) (hd : decode cc pc = .ok (.tableswitch dflt lo hi offs, len)) (h1 : ¬ x.toInt < lo) (h2 : ¬ hi < x.toInt) (ho : offs[(x.toInt - lo).toNat]? = some off) (ht : (pc : Int) + off = (tgt : Int)) (k : qm_wp M d I tgt ls st S Q) : qm_wp M d I pc ls (.int x :: st) S Q := fun τ hR => qh_tableIn e tgt hd h1 h2 ho ht (k τ hR)
theorem qm_tableOut (e : I.2.1 = cc) {dflt lo hi : Int} {offs : Array Int} {len : Nat} {x : Int32} (tgt : Nat) (hd : decode cc pc = .ok (.tableswitch dflt lo hi offs, len)) (h : x.toInt < lo ∨ hi < x.toInt) (ht : (pc : Int) + dflt = (tgt : Int)) (k : qm_wp M d I tgt ls st S Q) : qm_wp M d I pc ls (.int x :: st) S Q := fun τ hR => qh_tableOut e tgt hd h ht (k τ hR)
end
theorem qm_set0 {fa : Nat → Nat} {s : Nat → Int32} {x : Int32} : (qm_fs fa s).set 0 (.int x) = qm_fs fa (upd s 0 x) := rfl
theorem qm_set6 {fa : Nat → Nat} {s : Nat → Int32} {x : Int32} : (qm_fs fa s).set 6 (.int x) = qm_fs fa (upd s 6 x) := rfl
theorem qm_set7 {fa : Nat → Nat} {s : Nat → Int32} {x : Int32} : (qm_fs fa s).set 7 (.int x) = qm_fs fa (upd s 7 x) := rfl
theorem qm_set8 {fa : Nat → Nat} {s : Nat → Int32} {x : Int32} : (qm_fs fa s).set 8 (.int x) = qm_fs fa (upd s 8 x) := rfl
theorem qm_set22 {fa : Nat → Nat} {s : Nat → Int32} {x : Int32} : (qm_fs fa s).set 22 (.int x) = qm_fs fa (upd s 22 x) := rfl
theorem qm_set24 {fa : Nat → Nat} {s : Nat → Int32} {x : Int32} : (qm_fs fa s).set 24 (.int x) = qm_fs fa (upd s 24 x) := rfl
theorem qm_set29 {fa : Nat → Nat} {s : Nat → Int32} {x : Int32} : (qm_fs fa s).set 29 (.int x) = qm_fs fa (upd s 29 x) := rfl
theorem qm_set34 {fa : Nat → Nat} {s : Nat → Int32} {x : Int32} : (qm_fs fa s).set 34 (.int x) = qm_fs fa (upd s 34 x) := rfl
theorem qm_set37 {fa : Nat → Nat} {s : Nat → Int32} {x : Int32} : (qm_fs fa s).set 37 (.int x) = qm_fs fa (upd s 37 x) := rfl
theorem qm_set38 {fa : Nat → Nat} {s : Nat → Int32} {x : Int32} : (qm_fs fa s).set 38 (.int x) = qm_fs fa (upd s 38 x) := rfl
theorem qm_set39 {fa : Nat → Nat} {s : Nat → Int32} {x : Int32} : (qm_fs fa s).set 39 (.int x) = qm_fs fa (upd s 39 x) := rfl
theorem qm_set52 {fa : Nat → Nat} {s : Nat → Int32} {x : Int32} : (qm_fs fa s).set 52 (.int x) = qm_fs fa (upd s 52 x) := rfl
theorem qm_set53 {fa : Nat → Nat} {s : Nat → Int32} {x : Int32} : (qm_fs fa s).set 53 (.int x) = qm_fs fa (upd s 53 x) := rfl
theorem qm_set54 {fa : Nat → Nat} {s : Nat → Int32} {x : Int32} : (qm_fs fa s).set 54 (.int x) = qm_fs fa (upd s 54 x) := rfl
theorem qm_set55 {fa : Nat → Nat} {s : Nat → Int32} {x : Int32} : (qm_fs fa s).set 55 (.int x) = qm_fs fa (upd s 55 x) := rfl
theorem qm_set62 {fa : Nat → Nat} {s : Nat → Int32} {x : Int32} : (qm_fs fa s).set 62 (.int x) = qm_fs fa (upd s 62 x) := rfl
theorem qm_set63 {fa : Nat → Nat} {s : Nat → Int32} {x : Int32} : (qm_fs fa s).set 63 (.int x) = qm_fs fa (upd s 63 x) := rfl
theorem qm_set68 {fa : Nat → Nat} {s : Nat → Int32} {x : Int32} : (qm_fs fa s).set 68 (.int x) = qm_fs fa (upd s 68 x) := rfl
theorem qm_set69 {fa : Nat → Nat} {s : Nat → Int32} {x : Int32} : (qm_fs fa s).set 69 (.int x) = qm_fs fa (upd s 69 x) := rfl
theorem qm_set71 {fa : Nat → Nat} {s : Nat → Int32} {x : Int32} : (qm_fs fa s).set 71 (.int x) = qm_fs fa (upd s 71 x) := rfl
theorem qm_set75 {fa : Nat → Nat} {s : Nat → Int32} {x : Int32} : (qm_fs fa s).set 75 (.int x) = qm_fs fa (upd s 75 x) := rfl
theorem qm_set76 {fa : Nat → Nat} {s : Nat → Int32} {x : Int32} : (qm_fs fa s).set 76 (.int x) = qm_fs fa (upd s 76 x) := rfl
theorem qm_set78 {fa : Nat → Nat} {s : Nat → Int32} {x : Int32} : (qm_fs fa s).set 78 (.int x) = qm_fs fa (upd s 78 x) := rfl
theorem qm_set79 {fa : Nat → Nat} {s : Nat → Int32} {x : Int32} : (qm_fs fa s).set 79 (.int x) = qm_fs fa (upd s 79 x) := rfl
theorem qm_set80 {fa : Nat → Nat} {s : Nat → Int32} {x : Int32} : (qm_fs fa s).set 80 (.int x) = qm_fs fa (upd s 80 x) := rfl
theorem qm_set81 {fa : Nat → Nat} {s : Nat → Int32} {x : Int32} : (qm_fs fa s).set 81 (.int x) = qm_fs fa (upd s 81 x) := rfl
theorem qm_set82 {fa : Nat → Nat} {s : Nat → Int32} {x : Int32} : (qm_fs fa s).set 82 (.int x) = qm_fs fa (upd s 82 x) := rfl
theorem qm_set83 {fa : Nat → Nat} {s : Nat → Int32} {x : Int32} : (qm_fs fa s).set 83 (.int x) = qm_fs fa (upd s 83 x) := rfl
theorem qm_set85 {fa : Nat → Nat} {s : Nat → Int32} {x : Int32} : (qm_fs fa s).set 85 (.int x) = qm_fs fa (upd s 85 x) := rfl
