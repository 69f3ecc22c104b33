/-! CORE 5 (printed by gen.py): the reference's methods: f_ a function (p_: where it may be asked), T_ the weakest precondition; C_ the contract -/
set_option maxRecDepth 100000

theorem qm_nb {v : Int32} (h : v = 0 ∨ v = 1) : narrow .boolean (.int v) = .int v := by
  rcases h with h | h <;> rw [h] <;> rfl
theorem qm_uA_s {f : Nat → Nat → Int32} {k : Nat} {h : Nat → Int32} : qm_uA f k h k = h := by
  unfold qm_uA
  simp
theorem qm_fb {v : Int32} (h : v = 0 ∨ v = 1) : fits .boolean (.int v) = true := by
  rcases h with h | h <;> rw [h] <;> rfl
theorem qm_lit {i : Int32} {n : Nat} (h : decide (¬ (i < 0 ∨ n ≤ i.toNatClampNeg)) = true) : vp_in i n := of_decide_eq_true (p := ¬ (i < 0 ∨ n ≤ i.toNatClampNeg)) h
theorem qm_vb {v : Int32} (h : v = 0 ∨ v = 1) : vp_nar .boolean v = v := by
  rcases h with h | h <;> rw [h] <;> rfl
theorem qm_zi {c : Prop} [Decidable c] {a b : Int32} (ha : a = 0 ∨ a = 1) (hb : b = 0 ∨ b = 1) : (if c then a else b) = 0 ∨ (if c then a else b) = 1 := by
  by_cases h : c
  · rw [if_pos h]; exact ha
  · rw [if_neg h]; exact hb
theorem qm_sw4 {x : Int32} (h0 : ¬ x = 0) (h1 : ¬ x = 1) (h2 : ¬ x = 2) (h3 : ¬ x = 3) : x.toInt < 0 ∨ 3 < x.toInt := by
  by_cases h : x.toInt < 0
  · exact Or.inl h
  · by_cases h' : 3 < x.toInt
    · exact Or.inr h'
    · exfalso
      have : x.toInt = 0 ∨ x.toInt = 1 ∨ x.toInt = 2 ∨ x.toInt = 3 := by omega
      rcases this with e | e | e | e
      · exact h0 (Int32.toInt_inj.mp (e.trans (by decide)))
      · exact h1 (Int32.toInt_inj.mp (e.trans (by decide)))
      · exact h2 (Int32.toInt_inj.mp (e.trans (by decide)))
      · exact h3 (Int32.toInt_inj.mp (e.trans (by decide)))

def I_X8_thrown : qh_I := (yX8_thrown, cX8_thrown, 1, (Option.some Jvm.ClassFile.FieldType.int), [])
theorem E_X8_thrown : I_X8_thrown.2.1 = cX8_thrown := rfl
theorem M_X8_thrown : qh_M I_X8_thrown 0 := ⟨by decide, by decide, by decide +kernel, q95, q1943, by decide⟩
def f_X8_thrown (S : qm_S) : Int32 := S.1 0
set_option maxHeartbeats 4000000 in
theorem C_X8_thrown {M : qm_G} {d : Nat} (S : qm_S) (Q : Option Value → qm_S → Prop) (hq : Q (some (.int (f_X8_thrown S))) S) : qm_C M (d + 0) I_X8_thrown [.ref M.2.2.1] S Q := by
  refine qm_C.of (by decide) rfl (ls := [some (.ref M.2.2.1)]) rfl (Nat.le_of_ble_eq_true rfl) (qm_ct rfl) ?_
  unfold f_X8_thrown at hq
  refine qm_aload_n E_X8_thrown (by rfl) dX8_thrown_0 ?_
  refine qm_get E_X8_thrown rfl 0 (by decide) q1657 (v := .int (S.1 0)) rfl dX8_thrown_1 ?_
  exact qm_iret E_X8_thrown rfl dX8_thrown_4 hq
def I_X8_in : qh_I := (yX8_in, cX8_in, 3, (Option.some Jvm.ClassFile.FieldType.boolean), [])
theorem E_X8_in : I_X8_in.2.1 = cX8_in := rfl
theorem M_X8_in : qh_M I_X8_in 3 := ⟨by decide, by decide, by decide +kernel, q95, q1953, by decide⟩
def f_X8_in (a1 a2 a3 : Int32) : Int32 := if a1 < a2 then (0 : Int32) else if a3 < a1 then (0 : Int32) else (1 : Int32)
theorem z_X8_in (a1 a2 a3 : Int32) : (f_X8_in a1 a2 a3) = 0 ∨ (f_X8_in a1 a2 a3) = 1 := (qm_zi (Or.inl rfl) (qm_zi (Or.inl rfl) (Or.inr rfl)))
set_option maxHeartbeats 4000000 in
theorem C_X8_in {M : qm_G} {d : Nat} (a1 a2 a3 : Int32) (S : qm_S) (Q : Option Value → qm_S → Prop) (hq : Q (some (.int (f_X8_in a1 a2 a3))) S) : qm_C M (d + 0) I_X8_in [.int a1, .int a2, .int a3] S Q := by
  refine qm_C.of (by decide) rfl (ls := [some (.int a1), some (.int a2), some (.int a3)]) rfl (Nat.le_of_ble_eq_true rfl) (qm_ct rfl) ?_
  unfold f_X8_in at hq
  refine qm_iload_n E_X8_in (by rfl) dX8_in_0 ?_
  refine qm_iload_n E_X8_in (by rfl) dX8_in_1 ?_
  refine qm_icmp_lt E_X8_in 14 dX8_in_2 (by decide) (fun (c1 : a1 < a2) => ?_) (fun (c1 : ¬ a1 < a2) => ?_)
  · rw [if_pos c1] at hq
    refine qm_iconst E_X8_in 0 (by decide) dX8_in_14 ?_
    exact qm_zret E_X8_in rfl (qm_nb (Or.inl rfl)) dX8_in_15 hq
  · rw [if_neg c1] at hq
    refine qm_iload_n E_X8_in (by rfl) dX8_in_5 ?_
    refine qm_iload_n E_X8_in (by rfl) dX8_in_6 ?_
    refine qm_icmp_gt E_X8_in 14 dX8_in_7 (by decide) (fun (c2 : a3 < a1) => ?_) (fun (c2 : ¬ a3 < a1) => ?_)
    · rw [if_pos c2] at hq
      refine qm_iconst E_X8_in 0 (by decide) dX8_in_14 ?_
      exact qm_zret E_X8_in rfl (qm_nb (Or.inl rfl)) dX8_in_15 hq
    · rw [if_neg c2] at hq
      refine qm_iconst E_X8_in 1 (by decide) dX8_in_10 ?_
      refine qm_goto E_X8_in 15 dX8_in_11 (by decide) ?_
      exact qm_zret E_X8_in rfl (qm_nb (Or.inr rfl)) dX8_in_15 hq
def I_X8_isSource : qh_I := (yX8_isSource, cX8_isSource, 1, (Option.some Jvm.ClassFile.FieldType.boolean), [])
theorem E_X8_isSource : I_X8_isSource.2.1 = cX8_isSource := rfl
theorem M_X8_isSource : qh_M I_X8_isSource 1 := ⟨by decide, by decide, by decide +kernel, q95, q1950, by decide⟩
def f_X8_isSource (a1 : Int32) : Int32 := f_X8_in a1 0 5
theorem z_X8_isSource (a1 : Int32) : (f_X8_isSource a1) = 0 ∨ (f_X8_isSource a1) = 1 := (z_X8_in a1 0 5)
set_option maxHeartbeats 4000000 in
theorem C_X8_isSource {M : qm_G} {d : Nat} (a1 : Int32) (S : qm_S) (Q : Option Value → qm_S → Prop) (hq : Q (some (.int (f_X8_isSource a1))) S) : qm_C M (d + 1) I_X8_isSource [.int a1] S Q := by
  refine qm_C.of (by decide) rfl (ls := [some (.int a1)]) rfl (Nat.le_of_ble_eq_true rfl) (qm_ct rfl) ?_
  unfold f_X8_isSource at hq
  refine qm_iload_n E_X8_isSource (by rfl) dX8_isSource_0 ?_
  refine qm_iconst E_X8_isSource 0 (by decide) dX8_isSource_1 ?_
  refine qm_iconst E_X8_isSource 5 (by decide) dX8_isSource_2 ?_
  refine qm_callS (As := [.int a1, .int 0, .int 5]) (rest := []) E_X8_isSource rfl M_X8_in rfl q1951 q1952 rfl rfl (Nat.le_of_ble_eq_true rfl) dX8_isSource_3 (C_X8_in (d := d) a1 0 5 S _ ?_)
  exact qm_zret E_X8_isSource rfl (qm_nb (z_X8_in a1 0 5)) dX8_isSource_6 hq
def I_X8_storeOf : qh_I := (yX8_storeOf, cX8_storeOf, 1, (Option.some Jvm.ClassFile.FieldType.int), [])
theorem E_X8_storeOf : I_X8_storeOf.2.1 = cX8_storeOf := rfl
theorem M_X8_storeOf : qh_M I_X8_storeOf 1 := ⟨by decide, by decide, by decide +kernel, q95, q1966, by decide⟩
def f_X8_storeOf (a1 : Int32) : Int32 := a1 / 2
set_option maxHeartbeats 4000000 in
theorem C_X8_storeOf {M : qm_G} {d : Nat} (a1 : Int32) (S : qm_S) (Q : Option Value → qm_S → Prop) (hq : Q (some (.int (f_X8_storeOf a1))) S) : qm_C M (d + 0) I_X8_storeOf [.int a1] S Q := by
  refine qm_C.of (by decide) rfl (ls := [some (.int a1)]) rfl (Nat.le_of_ble_eq_true rfl) (qm_ct rfl) ?_
  unfold f_X8_storeOf at hq
  refine qm_iload_n E_X8_storeOf (by rfl) dX8_storeOf_0 ?_
  refine qm_iconst E_X8_storeOf 2 (by decide) dX8_storeOf_1 ?_
  refine qm_idiv E_X8_storeOf (by decide) dX8_storeOf_2 ?_
  exact qm_iret E_X8_storeOf rfl dX8_storeOf_3 hq
def I_X8_isColumn : qh_I := (yX8_isColumn, cX8_isColumn, 2, (Option.some Jvm.ClassFile.FieldType.boolean), [])
theorem E_X8_isColumn : I_X8_isColumn.2.1 = cX8_isColumn := rfl
theorem M_X8_isColumn : qh_M I_X8_isColumn 2 := ⟨by decide, by decide, by decide +kernel, q95, q1963, by decide⟩
def f_X8_isColumn (a1 a2 : Int32) : Int32 := if (f_X8_storeOf a1) = 1 then f_X8_in a2 0 1 else f_X8_in a2 0 3
theorem z_X8_isColumn (a1 a2 : Int32) : (f_X8_isColumn a1 a2) = 0 ∨ (f_X8_isColumn a1 a2) = 1 := (qm_zi (z_X8_in a2 0 1) (z_X8_in a2 0 3))
set_option maxHeartbeats 4000000 in
theorem C_X8_isColumn {M : qm_G} {d : Nat} (a1 a2 : Int32) (S : qm_S) (Q : Option Value → qm_S → Prop) (hq : Q (some (.int (f_X8_isColumn a1 a2))) S) : qm_C M (d + 1) I_X8_isColumn [.int a1, .int a2] S Q := by
  refine qm_C.of (by decide) rfl (ls := [some (.int a1), some (.int a2)]) rfl (Nat.le_of_ble_eq_true rfl) (qm_ct rfl) ?_
  unfold f_X8_isColumn at hq
  refine qm_iload_n E_X8_isColumn (by rfl) dX8_isColumn_0 ?_
  refine qm_iconst E_X8_isColumn 0 (by decide) dX8_isColumn_1 ?_
  refine qm_iload_n E_X8_isColumn (by rfl) dX8_isColumn_2 ?_
  refine qm_callS (As := [.int a1]) (rest := [.int 0, .int a2]) E_X8_isColumn rfl M_X8_storeOf rfl q1964 q1965 rfl rfl (Nat.le_of_ble_eq_true rfl) dX8_isColumn_3 (C_X8_storeOf (d := d) a1 S _ ?_)
  refine qm_iconst E_X8_isColumn 1 (by decide) dX8_isColumn_6 ?_
  refine qm_icmp_ne E_X8_isColumn 14 dX8_isColumn_7 (by decide) (fun (c1 : ¬ (f_X8_storeOf a1) = 1) => ?_) (fun (c1 : (f_X8_storeOf a1) = 1) => ?_)
  · rw [if_neg c1] at hq
    refine qm_iconst E_X8_isColumn 3 (by decide) dX8_isColumn_14 ?_
    refine qm_callS (As := [.int a2, .int 0, .int 3]) (rest := []) E_X8_isColumn rfl M_X8_in rfl q1951 q1952 rfl rfl (Nat.le_of_ble_eq_true rfl) dX8_isColumn_15 (C_X8_in (d := d) a2 0 3 S _ ?_)
    exact qm_zret E_X8_isColumn rfl (qm_nb (z_X8_in a2 0 3)) dX8_isColumn_18 hq
  · rw [if_pos c1] at hq
    refine qm_iconst E_X8_isColumn 1 (by decide) dX8_isColumn_10 ?_
    refine qm_goto E_X8_isColumn 15 dX8_isColumn_11 (by decide) ?_
    refine qm_callS (As := [.int a2, .int 0, .int 1]) (rest := []) E_X8_isColumn rfl M_X8_in rfl q1951 q1952 rfl rfl (Nat.le_of_ble_eq_true rfl) dX8_isColumn_15 (C_X8_in (d := d) a2 0 1 S _ ?_)
    exact qm_zret E_X8_isColumn rfl (qm_nb (z_X8_in a2 0 1)) dX8_isColumn_18 hq
def I_X8_isNumber : qh_I := (yX8_isNumber, cX8_isNumber, 1, (Option.some Jvm.ClassFile.FieldType.boolean), [])
theorem E_X8_isNumber : I_X8_isNumber.2.1 = cX8_isNumber := rfl
theorem M_X8_isNumber : qh_M I_X8_isNumber 1 := ⟨by decide, by decide, by decide +kernel, q95, q1969, by decide⟩
def f_X8_isNumber (a1 : Int32) : Int32 := f_X8_in a1 ((-999)) 999
theorem z_X8_isNumber (a1 : Int32) : (f_X8_isNumber a1) = 0 ∨ (f_X8_isNumber a1) = 1 := (z_X8_in a1 ((-999)) 999)
set_option maxHeartbeats 4000000 in
theorem C_X8_isNumber {M : qm_G} {d : Nat} (a1 : Int32) (S : qm_S) (Q : Option Value → qm_S → Prop) (hq : Q (some (.int (f_X8_isNumber a1))) S) : qm_C M (d + 1) I_X8_isNumber [.int a1] S Q := by
  refine qm_C.of (by decide) rfl (ls := [some (.int a1)]) rfl (Nat.le_of_ble_eq_true rfl) (qm_ct rfl) ?_
  unfold f_X8_isNumber at hq
  refine qm_iload_n E_X8_isNumber (by rfl) dX8_isNumber_0 ?_
  refine qm_sipush E_X8_isNumber (-999) (by decide) dX8_isNumber_1 ?_
  refine qm_sipush E_X8_isNumber 999 (by decide) dX8_isNumber_4 ?_
  refine qm_callS (As := [.int a1, .int ((-999)), .int 999]) (rest := []) E_X8_isNumber rfl M_X8_in rfl q1951 q1952 rfl rfl (Nat.le_of_ble_eq_true rfl) dX8_isNumber_7 (C_X8_in (d := d) a1 ((-999)) 999 S _ ?_)
  exact qm_zret E_X8_isNumber rfl (qm_nb (z_X8_in a1 ((-999)) 999)) dX8_isNumber_10 hq
def I_X8_isCell : qh_I := (yX8_isCell, cX8_isCell, 3, (Option.some Jvm.ClassFile.FieldType.boolean), [])
theorem E_X8_isCell : I_X8_isCell.2.1 = cX8_isCell := rfl
theorem M_X8_isCell : qh_M I_X8_isCell 3 := ⟨by decide, by decide, by decide +kernel, q95, q1960, by decide⟩
def f_X8_isCell (a1 a2 a3 : Int32) : Int32 := if (f_X8_isColumn a1 a2) = 0 then if a3 = 0 then (1 : Int32) else (0 : Int32) else if a1 ≤ 1 then if (f_X8_isNumber a3) = 0 then if a3 = 5000 then (1 : Int32) else if a3 = 5001 then if a1 ≤ 3 then (0 : Int32) else (1 : Int32) else (0 : Int32) else (1 : Int32) else if a2 = 0 then f_X8_in a3 0 99 else if (f_X8_isNumber a3) = 0 then if a3 = 5000 then (1 : Int32) else if a3 = 5001 then if a1 ≤ 3 then (0 : Int32) else (1 : Int32) else (0 : Int32) else (1 : Int32)
theorem z_X8_isCell (a1 a2 a3 : Int32) : (f_X8_isCell a1 a2 a3) = 0 ∨ (f_X8_isCell a1 a2 a3) = 1 := (qm_zi (qm_zi (Or.inr rfl) (Or.inl rfl)) (qm_zi (qm_zi (qm_zi (Or.inr rfl) (qm_zi (qm_zi (Or.inl rfl) (Or.inr rfl)) (Or.inl rfl))) (Or.inr rfl)) (qm_zi (z_X8_in a3 0 99) (qm_zi (qm_zi (Or.inr rfl) (qm_zi (qm_zi (Or.inl rfl) (Or.inr rfl)) (Or.inl rfl))) (Or.inr rfl)))))
set_option maxHeartbeats 4000000 in
theorem C_X8_isCell {M : qm_G} {d : Nat} (a1 a2 a3 : Int32) (S : qm_S) (Q : Option Value → qm_S → Prop) (hq : Q (some (.int (f_X8_isCell a1 a2 a3))) S) : qm_C M (d + 2) I_X8_isCell [.int a1, .int a2, .int a3] S Q := by
  refine qm_C.of (by decide) rfl (ls := [some (.int a1), some (.int a2), some (.int a3)]) rfl (Nat.le_of_ble_eq_true rfl) (qm_ct rfl) ?_
  unfold f_X8_isCell at hq
  refine qm_iload_n E_X8_isCell (by rfl) dX8_isCell_0 ?_
  refine qm_iload_n E_X8_isCell (by rfl) dX8_isCell_1 ?_
  refine qm_callS (As := [.int a1, .int a2]) (rest := []) E_X8_isCell rfl M_X8_isColumn rfl q1961 q1962 rfl rfl (Nat.le_of_ble_eq_true rfl) dX8_isCell_2 (C_X8_isColumn (d := d) a1 a2 S _ ?_)
  refine qm_if_ne E_X8_isCell 18 dX8_isCell_5 (by decide) (fun (c1 : ¬ (f_X8_isColumn a1 a2) = 0) => ?_) (fun (c1 : (f_X8_isColumn a1 a2) = 0) => ?_)
  · rw [if_neg c1] at hq
    refine qm_iload_n E_X8_isCell (by rfl) dX8_isCell_18 ?_
    refine qm_iconst E_X8_isCell 1 (by decide) dX8_isCell_19 ?_
    refine qm_icmp_le E_X8_isCell 35 dX8_isCell_20 (by decide) (fun (c2 : a1 ≤ 1) => ?_) (fun (c2 : ¬ a1 ≤ 1) => ?_)
    · rw [if_pos c2] at hq
      refine qm_iload_n E_X8_isCell (by rfl) dX8_isCell_35 ?_
      refine qm_callS (As := [.int a3]) (rest := []) E_X8_isCell rfl M_X8_isNumber rfl q1967 q1968 rfl rfl (Nat.le_of_ble_eq_true rfl) dX8_isCell_36 (C_X8_isNumber (d := d) a3 S _ ?_)
      refine qm_if_ne E_X8_isCell 61 dX8_isCell_39 (by decide) (fun (c3 : ¬ (f_X8_isNumber a3) = 0) => ?_) (fun (c3 : (f_X8_isNumber a3) = 0) => ?_)
      · rw [if_neg c3] at hq
        refine qm_iconst E_X8_isCell 1 (by decide) dX8_isCell_61 ?_
        refine qm_goto E_X8_isCell 66 dX8_isCell_62 (by decide) ?_
        exact qm_zret E_X8_isCell rfl (qm_nb (Or.inr rfl)) dX8_isCell_66 hq
      · rw [if_pos c3] at hq
        refine qm_iload_n E_X8_isCell (by rfl) dX8_isCell_42 ?_
        refine qm_sipush E_X8_isCell 5000 (by decide) dX8_isCell_43 ?_
        refine qm_icmp_eq E_X8_isCell 61 dX8_isCell_46 (by decide) (fun (c4 : a3 = 5000) => ?_) (fun (c4 : ¬ a3 = 5000) => ?_)
        · rw [if_pos c4] at hq
          refine qm_iconst E_X8_isCell 1 (by decide) dX8_isCell_61 ?_
          refine qm_goto E_X8_isCell 66 dX8_isCell_62 (by decide) ?_
          exact qm_zret E_X8_isCell rfl (qm_nb (Or.inr rfl)) dX8_isCell_66 hq
        · rw [if_neg c4] at hq
          refine qm_iload_n E_X8_isCell (by rfl) dX8_isCell_49 ?_
          refine qm_sipush E_X8_isCell 5001 (by decide) dX8_isCell_50 ?_
          refine qm_icmp_ne E_X8_isCell 65 dX8_isCell_53 (by decide) (fun (c5 : ¬ a3 = 5001) => ?_) (fun (c5 : a3 = 5001) => ?_)
          · rw [if_neg c5] at hq
            refine qm_iconst E_X8_isCell 0 (by decide) dX8_isCell_65 ?_
            exact qm_zret E_X8_isCell rfl (qm_nb (Or.inl rfl)) dX8_isCell_66 hq
          · rw [if_pos c5] at hq
            refine qm_iload_n E_X8_isCell (by rfl) dX8_isCell_56 ?_
            refine qm_iconst E_X8_isCell 3 (by decide) dX8_isCell_57 ?_
            refine qm_icmp_le E_X8_isCell 65 dX8_isCell_58 (by decide) (fun (c6 : a1 ≤ 3) => ?_) (fun (c6 : ¬ a1 ≤ 3) => ?_)
            · rw [if_pos c6] at hq
              refine qm_iconst E_X8_isCell 0 (by decide) dX8_isCell_65 ?_
              exact qm_zret E_X8_isCell rfl (qm_nb (Or.inl rfl)) dX8_isCell_66 hq
            · rw [if_neg c6] at hq
              refine qm_iconst E_X8_isCell 1 (by decide) dX8_isCell_61 ?_
              refine qm_goto E_X8_isCell 66 dX8_isCell_62 (by decide) ?_
              exact qm_zret E_X8_isCell rfl (qm_nb (Or.inr rfl)) dX8_isCell_66 hq
    · rw [if_neg c2] at hq
      refine qm_iload_n E_X8_isCell (by rfl) dX8_isCell_23 ?_
      refine qm_if_ne E_X8_isCell 35 dX8_isCell_24 (by decide) (fun (c7 : ¬ a2 = 0) => ?_) (fun (c7 : a2 = 0) => ?_)
      · rw [if_neg c7] at hq
        refine qm_iload_n E_X8_isCell (by rfl) dX8_isCell_35 ?_
        refine qm_callS (As := [.int a3]) (rest := []) E_X8_isCell rfl M_X8_isNumber rfl q1967 q1968 rfl rfl (Nat.le_of_ble_eq_true rfl) dX8_isCell_36 (C_X8_isNumber (d := d) a3 S _ ?_)
        refine qm_if_ne E_X8_isCell 61 dX8_isCell_39 (by decide) (fun (c8 : ¬ (f_X8_isNumber a3) = 0) => ?_) (fun (c8 : (f_X8_isNumber a3) = 0) => ?_)
        · rw [if_neg c8] at hq
          refine qm_iconst E_X8_isCell 1 (by decide) dX8_isCell_61 ?_
          refine qm_goto E_X8_isCell 66 dX8_isCell_62 (by decide) ?_
          exact qm_zret E_X8_isCell rfl (qm_nb (Or.inr rfl)) dX8_isCell_66 hq
        · rw [if_pos c8] at hq
          refine qm_iload_n E_X8_isCell (by rfl) dX8_isCell_42 ?_
          refine qm_sipush E_X8_isCell 5000 (by decide) dX8_isCell_43 ?_
          refine qm_icmp_eq E_X8_isCell 61 dX8_isCell_46 (by decide) (fun (c9 : a3 = 5000) => ?_) (fun (c9 : ¬ a3 = 5000) => ?_)
          · rw [if_pos c9] at hq
            refine qm_iconst E_X8_isCell 1 (by decide) dX8_isCell_61 ?_
            refine qm_goto E_X8_isCell 66 dX8_isCell_62 (by decide) ?_
            exact qm_zret E_X8_isCell rfl (qm_nb (Or.inr rfl)) dX8_isCell_66 hq
          · rw [if_neg c9] at hq
            refine qm_iload_n E_X8_isCell (by rfl) dX8_isCell_49 ?_
            refine qm_sipush E_X8_isCell 5001 (by decide) dX8_isCell_50 ?_
            refine qm_icmp_ne E_X8_isCell 65 dX8_isCell_53 (by decide) (fun (c10 : ¬ a3 = 5001) => ?_) (fun (c10 : a3 = 5001) => ?_)
            · rw [if_neg c10] at hq
              refine qm_iconst E_X8_isCell 0 (by decide) dX8_isCell_65 ?_
              exact qm_zret E_X8_isCell rfl (qm_nb (Or.inl rfl)) dX8_isCell_66 hq
            · rw [if_pos c10] at hq
              refine qm_iload_n E_X8_isCell (by rfl) dX8_isCell_56 ?_
              refine qm_iconst E_X8_isCell 3 (by decide) dX8_isCell_57 ?_
              refine qm_icmp_le E_X8_isCell 65 dX8_isCell_58 (by decide) (fun (c11 : a1 ≤ 3) => ?_) (fun (c11 : ¬ a1 ≤ 3) => ?_)
              · rw [if_pos c11] at hq
                refine qm_iconst E_X8_isCell 0 (by decide) dX8_isCell_65 ?_
                exact qm_zret E_X8_isCell rfl (qm_nb (Or.inl rfl)) dX8_isCell_66 hq
              · rw [if_neg c11] at hq
                refine qm_iconst E_X8_isCell 1 (by decide) dX8_isCell_61 ?_
                refine qm_goto E_X8_isCell 66 dX8_isCell_62 (by decide) ?_
                exact qm_zret E_X8_isCell rfl (qm_nb (Or.inr rfl)) dX8_isCell_66 hq
      · rw [if_pos c7] at hq
        refine qm_iload_n E_X8_isCell (by rfl) dX8_isCell_27 ?_
        refine qm_iconst E_X8_isCell 0 (by decide) dX8_isCell_28 ?_
        refine qm_bipush E_X8_isCell 99 (by decide) dX8_isCell_29 ?_
        refine qm_callS (As := [.int a3, .int 0, .int 99]) (rest := []) E_X8_isCell rfl M_X8_in rfl q1951 q1952 rfl rfl (Nat.le_of_ble_eq_true rfl) dX8_isCell_31 (C_X8_in (d := d + 1) a3 0 99 S _ ?_)
        exact qm_zret E_X8_isCell rfl (qm_nb (z_X8_in a3 0 99)) dX8_isCell_34 hq
  · rw [if_pos c1] at hq
    refine qm_iload_n E_X8_isCell (by rfl) dX8_isCell_8 ?_
    refine qm_if_ne E_X8_isCell 16 dX8_isCell_9 (by decide) (fun (c12 : ¬ a3 = 0) => ?_) (fun (c12 : a3 = 0) => ?_)
    · rw [if_neg c12] at hq
      refine qm_iconst E_X8_isCell 0 (by decide) dX8_isCell_16 ?_
      exact qm_zret E_X8_isCell rfl (qm_nb (Or.inl rfl)) dX8_isCell_17 hq
    · rw [if_pos c12] at hq
      refine qm_iconst E_X8_isCell 1 (by decide) dX8_isCell_12 ?_
      refine qm_goto E_X8_isCell 17 dX8_isCell_13 (by decide) ?_
      exact qm_zret E_X8_isCell rfl (qm_nb (Or.inr rfl)) dX8_isCell_17 hq
def I_X8_placeOf : qh_I := (yX8_placeOf, cX8_placeOf, 5, (Option.some Jvm.ClassFile.FieldType.int), [])
theorem E_X8_placeOf : I_X8_placeOf.2.1 = cX8_placeOf := rfl
theorem M_X8_placeOf : qh_M I_X8_placeOf 2 := ⟨by decide, by decide, by decide +kernel, q95, q1973, by decide⟩
def T_X8_placeOf (a1 a2 : Int32) (S : qm_S) (K : Int32 → Prop) : Prop := ∀ X1 : Int32 → Int32 → Prop, (∀ (x2 x3 : Int32), (vp_in a1 (qm_len 1) ∧ ((S.2 1 a1.toNatClampNeg) ≤ x3 → K x2) ∧ (¬ (S.2 1 a1.toNatClampNeg) ≤ x3 → vp_in ((12 * a1) + x3) (qm_len 2) ∧ (¬ (S.2 2 ((12 * a1) + x3).toNatClampNeg) = a2 → X1 x2 (x3 + 1)) ∧ ((S.2 2 ((12 * a1) + x3).toNatClampNeg) = a2 → X1 x3 (x3 + 1)))) → X1 x2 x3) → X1 ((-1)) 0
set_option maxHeartbeats 4000000 in
theorem C_X8_placeOf {M : qm_G} {d : Nat} (a1 a2 : Int32) (S : qm_S) (K : Int32 → Prop) (h : T_X8_placeOf a1 a2 S K) : qm_C M (d + 0) I_X8_placeOf [.ref M.2.2.1, .int a1, .int a2] S (fun v S' => ∃ r, v = some (.int r) ∧ S = S' ∧ K r) := by
  refine qm_C.of (by decide) rfl (ls := [some (.ref M.2.2.1), some (.int a1), some (.int a2), none, none]) rfl (Nat.le_of_ble_eq_true rfl) (qm_ct rfl) ?_
  unfold T_X8_placeOf at h
  refine qm_iconst E_X8_placeOf (-1) (by decide) dX8_placeOf_0 ?_
  refine qm_istore_n E_X8_placeOf (by decide) dX8_placeOf_1 ?_
  refine qm_iconst E_X8_placeOf 0 (by decide) dX8_placeOf_2 ?_
  refine qm_istore E_X8_placeOf (by decide) dX8_placeOf_3 ?_
  refine h (fun x2 x3 => qm_wp M (d + 0) I_X8_placeOf 5 [some (.ref M.2.2.1), some (.int a1), some (.int a2), some (.int x2), some (.int x3)] [] S (fun v S' => ∃ r, v = some (.int r) ∧ S = S' ∧ K r)) ?_
  intro x2 x3 h
  refine qm_iload E_X8_placeOf (by rfl) dX8_placeOf_5 ?_
  refine qm_aload_n E_X8_placeOf (by rfl) dX8_placeOf_7 ?_
  refine qm_get E_X8_placeOf rfl 1 (by decide) q1658 (v := .ref (M.2.2.2 1)) rfl dX8_placeOf_8 ?_
  refine qm_iload_n E_X8_placeOf (by rfl) dX8_placeOf_11 ?_
  obtain ⟨o4, h⟩ := h
  refine qm_iald E_X8_placeOf 1 (by decide) rfl o4 dX8_placeOf_12 ?_
  refine qm_icmp_ge E_X8_placeOf 45 dX8_placeOf_13 (by decide) (fun (c5 : (S.2 1 a1.toNatClampNeg) ≤ x3) => ?_) (fun (c5 : ¬ (S.2 1 a1.toNatClampNeg) ≤ x3) => ?_)
  · have h := h.1 c5
    refine qm_iload_n E_X8_placeOf (by rfl) dX8_placeOf_45 ?_
    exact qm_iret E_X8_placeOf rfl dX8_placeOf_46 ⟨_, rfl, rfl, h⟩
  · have h := h.2 c5
    refine qm_aload_n E_X8_placeOf (by rfl) dX8_placeOf_16 ?_
    refine qm_get E_X8_placeOf rfl 2 (by decide) q1659 (v := .ref (M.2.2.2 2)) rfl dX8_placeOf_17 ?_
    refine qm_bipush E_X8_placeOf 12 (by decide) dX8_placeOf_20 ?_
    refine qm_iload_n E_X8_placeOf (by rfl) dX8_placeOf_22 ?_
    refine qm_imul E_X8_placeOf dX8_placeOf_23 ?_
    refine qm_iload E_X8_placeOf (by rfl) dX8_placeOf_24 ?_
    refine qm_iadd E_X8_placeOf dX8_placeOf_26 ?_
    obtain ⟨o6, h⟩ := h
    refine qm_iald E_X8_placeOf 2 (by decide) rfl o6 dX8_placeOf_27 ?_
    refine qm_iload_n E_X8_placeOf (by rfl) dX8_placeOf_28 ?_
    refine qm_icmp_ne E_X8_placeOf 37 dX8_placeOf_29 (by decide) (fun (c7 : ¬ (S.2 2 ((12 * a1) + x3).toNatClampNeg) = a2) => ?_) (fun (c7 : (S.2 2 ((12 * a1) + x3).toNatClampNeg) = a2) => ?_)
    · have h := h.1 c7
      refine qm_iload_n E_X8_placeOf (by rfl) dX8_placeOf_37 ?_
      refine qm_istore_n E_X8_placeOf (by decide) dX8_placeOf_38 ?_
      refine qm_iinc E_X8_placeOf 1 rfl (by decide) (by decide) dX8_placeOf_39 ?_
      refine qm_goto E_X8_placeOf 5 dX8_placeOf_42 (by decide) ?_
      exact h
    · have h := h.2 c7
      refine qm_iload E_X8_placeOf (by rfl) dX8_placeOf_32 ?_
      refine qm_goto E_X8_placeOf 38 dX8_placeOf_34 (by decide) ?_
      refine qm_istore_n E_X8_placeOf (by decide) dX8_placeOf_38 ?_
      refine qm_iinc E_X8_placeOf 1 rfl (by decide) (by decide) dX8_placeOf_39 ?_
      refine qm_goto E_X8_placeOf 5 dX8_placeOf_42 (by decide) ?_
      exact h
def I_X8_canAdd : qh_I := (yX8_canAdd, cX8_canAdd, 6, (Option.some Jvm.ClassFile.FieldType.int), [])
theorem E_X8_canAdd : I_X8_canAdd.2.1 = cX8_canAdd := rfl
theorem M_X8_canAdd : qh_M I_X8_canAdd 5 := ⟨by decide, by decide, by decide +kernel, q95, q1957, by decide⟩
def T_X8_canAdd (a1 a2 a3 a4 a5 : Int32) (S : qm_S) (K : Int32 → Prop) : Prop := ((f_X8_isCell a1 0 a2) = 0 → K 2) ∧ (¬ (f_X8_isCell a1 0 a2) = 0 → ((f_X8_isCell a1 1 a3) = 0 → K 2) ∧ (¬ (f_X8_isCell a1 1 a3) = 0 → ((f_X8_isCell a1 2 a4) = 0 → K 2) ∧ (¬ (f_X8_isCell a1 2 a4) = 0 → (¬ (f_X8_isCell a1 3 a5) = 0 → vp_in a1 (qm_len 1) ∧ ((S.2 1 a1.toNatClampNeg) = 12 → K 3) ∧ (¬ (S.2 1 a1.toNatClampNeg) = 12 → (a1 ≤ 1 → (2 ≤ a1 → K 0) ∧ (¬ 2 ≤ a1 → vp_in a1 (qm_len 4) ∧ (¬ (S.2 4 a1.toNatClampNeg) = 60 → K 0) ∧ ((S.2 4 a1.toNatClampNeg) = 60 → K 3))) ∧ (¬ a1 ≤ 1 → T_X8_placeOf a1 a2 S (fun r11 => (¬ r11 = ((-1)) → K 3) ∧ (r11 = ((-1)) → (2 ≤ a1 → K 0) ∧ (¬ 2 ≤ a1 → vp_in a1 (qm_len 4) ∧ (¬ (S.2 4 a1.toNatClampNeg) = 60 → K 0) ∧ ((S.2 4 a1.toNatClampNeg) = 60 → K 3))))))) ∧ ((f_X8_isCell a1 3 a5) = 0 → K 2))))
set_option maxHeartbeats 4000000 in
theorem C_X8_canAdd {M : qm_G} {d : Nat} (a1 a2 a3 a4 a5 : Int32) (S : qm_S) (K : Int32 → Prop) (h : T_X8_canAdd a1 a2 a3 a4 a5 S K) : qm_C M (d + 3) I_X8_canAdd [.ref M.2.2.1, .int a1, .int a2, .int a3, .int a4, .int a5] S (fun v S' => ∃ r, v = some (.int r) ∧ S = S' ∧ K r) := by
  refine qm_C.of (by decide) rfl (ls := [some (.ref M.2.2.1), some (.int a1), some (.int a2), some (.int a3), some (.int a4), some (.int a5)]) rfl (Nat.le_of_ble_eq_true rfl) (qm_ct rfl) ?_
  unfold T_X8_canAdd at h
  refine qm_iload_n E_X8_canAdd (by rfl) dX8_canAdd_0 ?_
  refine qm_iconst E_X8_canAdd 0 (by decide) dX8_canAdd_1 ?_
  refine qm_iload_n E_X8_canAdd (by rfl) dX8_canAdd_2 ?_
  refine qm_callS (As := [.int a1, .int 0, .int a2]) (rest := []) E_X8_canAdd rfl M_X8_isCell rfl q1958 q1959 rfl rfl (Nat.le_of_ble_eq_true rfl) dX8_canAdd_3 (C_X8_isCell (d := d) a1 0 a2 S _ ?_)
  refine qm_if_eq E_X8_canAdd 38 dX8_canAdd_6 (by decide) (fun (c1 : (f_X8_isCell a1 0 a2) = 0) => ?_) (fun (c1 : ¬ (f_X8_isCell a1 0 a2) = 0) => ?_)
  · have h := h.1 c1
    refine qm_iconst E_X8_canAdd 2 (by decide) dX8_canAdd_38 ?_
    exact qm_iret E_X8_canAdd rfl dX8_canAdd_39 ⟨_, rfl, rfl, h⟩
  · have h := h.2 c1
    refine qm_iload_n E_X8_canAdd (by rfl) dX8_canAdd_9 ?_
    refine qm_iconst E_X8_canAdd 1 (by decide) dX8_canAdd_10 ?_
    refine qm_iload_n E_X8_canAdd (by rfl) dX8_canAdd_11 ?_
    refine qm_callS (As := [.int a1, .int 1, .int a3]) (rest := []) E_X8_canAdd rfl M_X8_isCell rfl q1958 q1959 rfl rfl (Nat.le_of_ble_eq_true rfl) dX8_canAdd_12 (C_X8_isCell (d := d) a1 1 a3 S _ ?_)
    refine qm_if_eq E_X8_canAdd 38 dX8_canAdd_15 (by decide) (fun (c2 : (f_X8_isCell a1 1 a3) = 0) => ?_) (fun (c2 : ¬ (f_X8_isCell a1 1 a3) = 0) => ?_)
    · have h := h.1 c2
      refine qm_iconst E_X8_canAdd 2 (by decide) dX8_canAdd_38 ?_
      exact qm_iret E_X8_canAdd rfl dX8_canAdd_39 ⟨_, rfl, rfl, h⟩
    · have h := h.2 c2
      refine qm_iload_n E_X8_canAdd (by rfl) dX8_canAdd_18 ?_
      refine qm_iconst E_X8_canAdd 2 (by decide) dX8_canAdd_19 ?_
      refine qm_iload E_X8_canAdd (by rfl) dX8_canAdd_20 ?_
      refine qm_callS (As := [.int a1, .int 2, .int a4]) (rest := []) E_X8_canAdd rfl M_X8_isCell rfl q1958 q1959 rfl rfl (Nat.le_of_ble_eq_true rfl) dX8_canAdd_22 (C_X8_isCell (d := d) a1 2 a4 S _ ?_)
      refine qm_if_eq E_X8_canAdd 38 dX8_canAdd_25 (by decide) (fun (c3 : (f_X8_isCell a1 2 a4) = 0) => ?_) (fun (c3 : ¬ (f_X8_isCell a1 2 a4) = 0) => ?_)
      · have h := h.1 c3
        refine qm_iconst E_X8_canAdd 2 (by decide) dX8_canAdd_38 ?_
        exact qm_iret E_X8_canAdd rfl dX8_canAdd_39 ⟨_, rfl, rfl, h⟩
      · have h := h.2 c3
        refine qm_iload_n E_X8_canAdd (by rfl) dX8_canAdd_28 ?_
        refine qm_iconst E_X8_canAdd 3 (by decide) dX8_canAdd_29 ?_
        refine qm_iload E_X8_canAdd (by rfl) dX8_canAdd_30 ?_
        refine qm_callS (As := [.int a1, .int 3, .int a5]) (rest := []) E_X8_canAdd rfl M_X8_isCell rfl q1958 q1959 rfl rfl (Nat.le_of_ble_eq_true rfl) dX8_canAdd_32 (C_X8_isCell (d := d) a1 3 a5 S _ ?_)
        refine qm_if_ne E_X8_canAdd 40 dX8_canAdd_35 (by decide) (fun (c4 : ¬ (f_X8_isCell a1 3 a5) = 0) => ?_) (fun (c4 : (f_X8_isCell a1 3 a5) = 0) => ?_)
        · have h := h.1 c4
          refine qm_aload_n E_X8_canAdd (by rfl) dX8_canAdd_40 ?_
          refine qm_get E_X8_canAdd rfl 1 (by decide) q1658 (v := .ref (M.2.2.2 1)) rfl dX8_canAdd_41 ?_
          refine qm_iload_n E_X8_canAdd (by rfl) dX8_canAdd_44 ?_
          obtain ⟨o5, h⟩ := h
          refine qm_iald E_X8_canAdd 1 (by decide) rfl o5 dX8_canAdd_45 ?_
          refine qm_bipush E_X8_canAdd 12 (by decide) dX8_canAdd_46 ?_
          refine qm_icmp_eq E_X8_canAdd 82 dX8_canAdd_48 (by decide) (fun (c6 : (S.2 1 a1.toNatClampNeg) = 12) => ?_) (fun (c6 : ¬ (S.2 1 a1.toNatClampNeg) = 12) => ?_)
          · have h := h.1 c6
            refine qm_iconst E_X8_canAdd 3 (by decide) dX8_canAdd_82 ?_
            refine qm_goto E_X8_canAdd 87 dX8_canAdd_83 (by decide) ?_
            exact qm_iret E_X8_canAdd rfl dX8_canAdd_87 ⟨_, rfl, rfl, h⟩
          · have h := h.2 c6
            refine qm_iload_n E_X8_canAdd (by rfl) dX8_canAdd_51 ?_
            refine qm_iconst E_X8_canAdd 1 (by decide) dX8_canAdd_52 ?_
            refine qm_icmp_le E_X8_canAdd 66 dX8_canAdd_53 (by decide) (fun (c7 : a1 ≤ 1) => ?_) (fun (c7 : ¬ a1 ≤ 1) => ?_)
            · have h := h.1 c7
              refine qm_iload_n E_X8_canAdd (by rfl) dX8_canAdd_66 ?_
              refine qm_iconst E_X8_canAdd 2 (by decide) dX8_canAdd_67 ?_
              refine qm_icmp_ge E_X8_canAdd 86 dX8_canAdd_68 (by decide) (fun (c8 : 2 ≤ a1) => ?_) (fun (c8 : ¬ 2 ≤ a1) => ?_)
              · have h := h.1 c8
                refine qm_iconst E_X8_canAdd 0 (by decide) dX8_canAdd_86 ?_
                exact qm_iret E_X8_canAdd rfl dX8_canAdd_87 ⟨_, rfl, rfl, h⟩
              · have h := h.2 c8
                refine qm_aload_n E_X8_canAdd (by rfl) dX8_canAdd_71 ?_
                refine qm_get E_X8_canAdd rfl 4 (by decide) q1661 (v := .ref (M.2.2.2 4)) rfl dX8_canAdd_72 ?_
                refine qm_iload_n E_X8_canAdd (by rfl) dX8_canAdd_75 ?_
                obtain ⟨o9, h⟩ := h
                refine qm_iald E_X8_canAdd 4 (by decide) rfl o9 dX8_canAdd_76 ?_
                refine qm_bipush E_X8_canAdd 60 (by decide) dX8_canAdd_77 ?_
                refine qm_icmp_ne E_X8_canAdd 86 dX8_canAdd_79 (by decide) (fun (c10 : ¬ (S.2 4 a1.toNatClampNeg) = 60) => ?_) (fun (c10 : (S.2 4 a1.toNatClampNeg) = 60) => ?_)
                · have h := h.1 c10
                  refine qm_iconst E_X8_canAdd 0 (by decide) dX8_canAdd_86 ?_
                  exact qm_iret E_X8_canAdd rfl dX8_canAdd_87 ⟨_, rfl, rfl, h⟩
                · have h := h.2 c10
                  refine qm_iconst E_X8_canAdd 3 (by decide) dX8_canAdd_82 ?_
                  refine qm_goto E_X8_canAdd 87 dX8_canAdd_83 (by decide) ?_
                  exact qm_iret E_X8_canAdd rfl dX8_canAdd_87 ⟨_, rfl, rfl, h⟩
            · have h := h.2 c7
              refine qm_aload_n E_X8_canAdd (by rfl) dX8_canAdd_56 ?_
              refine qm_iload_n E_X8_canAdd (by rfl) dX8_canAdd_57 ?_
              refine qm_iload_n E_X8_canAdd (by rfl) dX8_canAdd_58 ?_
              refine qm_callV (As := [.int a1, .int a2]) (rest := []) E_X8_canAdd rfl M_X8_placeOf rfl q1970 q1972 qs34 rfl rfl rfl (Nat.le_of_ble_eq_true rfl) dX8_canAdd_59 (qm_C.mono ?_ (C_X8_placeOf (d := d + 2) a1 a2 S _ h))
              rintro _ _ ⟨r11, rfl, rfl, h⟩
              refine qm_iconst E_X8_canAdd (-1) (by decide) dX8_canAdd_62 ?_
              refine qm_icmp_ne E_X8_canAdd 82 dX8_canAdd_63 (by decide) (fun (c13 : ¬ r11 = ((-1))) => ?_) (fun (c13 : r11 = ((-1))) => ?_)
              · have h := h.1 c13
                refine qm_iconst E_X8_canAdd 3 (by decide) dX8_canAdd_82 ?_
                refine qm_goto E_X8_canAdd 87 dX8_canAdd_83 (by decide) ?_
                exact qm_iret E_X8_canAdd rfl dX8_canAdd_87 ⟨_, rfl, rfl, h⟩
              · have h := h.2 c13
                refine qm_iload_n E_X8_canAdd (by rfl) dX8_canAdd_66 ?_
                refine qm_iconst E_X8_canAdd 2 (by decide) dX8_canAdd_67 ?_
                refine qm_icmp_ge E_X8_canAdd 86 dX8_canAdd_68 (by decide) (fun (c14 : 2 ≤ a1) => ?_) (fun (c14 : ¬ 2 ≤ a1) => ?_)
                · have h := h.1 c14
                  refine qm_iconst E_X8_canAdd 0 (by decide) dX8_canAdd_86 ?_
                  exact qm_iret E_X8_canAdd rfl dX8_canAdd_87 ⟨_, rfl, rfl, h⟩
                · have h := h.2 c14
                  refine qm_aload_n E_X8_canAdd (by rfl) dX8_canAdd_71 ?_
                  refine qm_get E_X8_canAdd rfl 4 (by decide) q1661 (v := .ref (M.2.2.2 4)) rfl dX8_canAdd_72 ?_
                  refine qm_iload_n E_X8_canAdd (by rfl) dX8_canAdd_75 ?_
                  obtain ⟨o15, h⟩ := h
                  refine qm_iald E_X8_canAdd 4 (by decide) rfl o15 dX8_canAdd_76 ?_
                  refine qm_bipush E_X8_canAdd 60 (by decide) dX8_canAdd_77 ?_
                  refine qm_icmp_ne E_X8_canAdd 86 dX8_canAdd_79 (by decide) (fun (c16 : ¬ (S.2 4 a1.toNatClampNeg) = 60) => ?_) (fun (c16 : (S.2 4 a1.toNatClampNeg) = 60) => ?_)
                  · have h := h.1 c16
                    refine qm_iconst E_X8_canAdd 0 (by decide) dX8_canAdd_86 ?_
                    exact qm_iret E_X8_canAdd rfl dX8_canAdd_87 ⟨_, rfl, rfl, h⟩
                  · have h := h.2 c16
                    refine qm_iconst E_X8_canAdd 3 (by decide) dX8_canAdd_82 ?_
                    refine qm_goto E_X8_canAdd 87 dX8_canAdd_83 (by decide) ?_
                    exact qm_iret E_X8_canAdd rfl dX8_canAdd_87 ⟨_, rfl, rfl, h⟩
        · have h := h.2 c4
          refine qm_iconst E_X8_canAdd 2 (by decide) dX8_canAdd_38 ?_
          exact qm_iret E_X8_canAdd rfl dX8_canAdd_39 ⟨_, rfl, rfl, h⟩
def I_X8_kept : qh_I := (yX8_kept, cX8_kept, 5, (Option.some Jvm.ClassFile.FieldType.int), [])
theorem E_X8_kept : I_X8_kept.2.1 = cX8_kept := rfl
theorem M_X8_kept : qh_M I_X8_kept 3 := ⟨by decide, by decide, by decide +kernel, q95, q1981, by decide⟩
def T_X8_kept (a1 a2 a3 : Int32) (S : qm_S) (K : Int32 → qm_S → Prop) : Prop := (¬ (f_X8_storeOf a1) = 1 → K a3 S) ∧ ((f_X8_storeOf a1) = 1 → (¬ a2 = 1 → K a3 S) ∧ (a2 = 1 → (¬ (f_X8_isNumber a3) = 0 → K ((if 0 ≤ a3 then if a3 ≤ 99 then a3 else (99 : Int32) else (0 : Int32))) ((upd S.1 6 ((S.1 6) + ((if ((if 0 ≤ a3 then if a3 ≤ 99 then a3 else (99 : Int32) else (0 : Int32))) = a3 then (0 : Int32) else (1 : Int32)))), S.2))) ∧ ((f_X8_isNumber a3) = 0 → K a3 S)))
set_option maxHeartbeats 4000000 in
theorem C_X8_kept {M : qm_G} {d : Nat} (a1 a2 a3 : Int32) (S : qm_S) (K : Int32 → qm_S → Prop) (h : T_X8_kept a1 a2 a3 S K) : qm_C M (d + 2) I_X8_kept [.ref M.2.2.1, .int a1, .int a2, .int a3] S (fun v S' => ∃ r, v = some (.int r) ∧ K r S') := by
  refine qm_C.of (by decide) rfl (ls := [some (.ref M.2.2.1), some (.int a1), some (.int a2), some (.int a3), none]) rfl (Nat.le_of_ble_eq_true rfl) (qm_ct rfl) ?_
  unfold T_X8_kept at h
  refine qm_iload_n E_X8_kept (by rfl) dX8_kept_0 ?_
  refine qm_callS (As := [.int a1]) (rest := []) E_X8_kept rfl M_X8_storeOf rfl q1964 q1965 rfl rfl (Nat.le_of_ble_eq_true rfl) dX8_kept_1 (C_X8_storeOf (d := d + 1) a1 S _ ?_)
  refine qm_iconst E_X8_kept 1 (by decide) dX8_kept_4 ?_
  refine qm_icmp_ne E_X8_kept 20 dX8_kept_5 (by decide) (fun (c1 : ¬ (f_X8_storeOf a1) = 1) => ?_) (fun (c1 : (f_X8_storeOf a1) = 1) => ?_)
  · have h := h.1 c1
    refine qm_iload_n E_X8_kept (by rfl) dX8_kept_20 ?_
    exact qm_iret E_X8_kept rfl dX8_kept_21 ⟨_, rfl, h⟩
  · have h := h.2 c1
    refine qm_iload_n E_X8_kept (by rfl) dX8_kept_8 ?_
    refine qm_iconst E_X8_kept 1 (by decide) dX8_kept_9 ?_
    refine qm_icmp_ne E_X8_kept 20 dX8_kept_10 (by decide) (fun (c2 : ¬ a2 = 1) => ?_) (fun (c2 : a2 = 1) => ?_)
    · have h := h.1 c2
      refine qm_iload_n E_X8_kept (by rfl) dX8_kept_20 ?_
      exact qm_iret E_X8_kept rfl dX8_kept_21 ⟨_, rfl, h⟩
    · have h := h.2 c2
      refine qm_iload_n E_X8_kept (by rfl) dX8_kept_13 ?_
      refine qm_callS (As := [.int a3]) (rest := []) E_X8_kept rfl M_X8_isNumber rfl q1967 q1968 rfl rfl (Nat.le_of_ble_eq_true rfl) dX8_kept_14 (C_X8_isNumber (d := d) a3 S _ ?_)
      refine qm_if_ne E_X8_kept 22 dX8_kept_17 (by decide) (fun (c3 : ¬ (f_X8_isNumber a3) = 0) => ?_) (fun (c3 : (f_X8_isNumber a3) = 0) => ?_)
      · have h := h.1 c3
        refine qm_iload_n E_X8_kept (by rfl) dX8_kept_22 ?_
        have Jv6 : ∀ v6 : Int32, v6 = (if 0 ≤ a3 then if a3 ≤ 99 then a3 else (99 : Int32) else (0 : Int32)) → qm_wp M (d + 2) I_X8_kept 42 [some (.ref M.2.2.1), some (.int a1), some (.int a2), some (.int a3), none] [.int v6] S (fun v S' => ∃ r, v = some (.int r) ∧ K r S') := by
          rintro _ rfl
          refine qm_istore E_X8_kept (by decide) dX8_kept_42 ?_
          refine qm_aload_n E_X8_kept (by rfl) dX8_kept_44 ?_
          refine qm_dup E_X8_kept rfl dX8_kept_45 ?_
          refine qm_get E_X8_kept rfl 6 (by decide) q1663 (v := .int (S.1 6)) rfl dX8_kept_46 ?_
          refine qm_iload E_X8_kept (by rfl) dX8_kept_49 ?_
          refine qm_iload_n E_X8_kept (by rfl) dX8_kept_51 ?_
          have Jv8 : ∀ v8 : Int32, v8 = (if ((if 0 ≤ a3 then if a3 ≤ 99 then a3 else (99 : Int32) else (0 : Int32))) = a3 then (0 : Int32) else (1 : Int32)) → qm_wp M (d + 2) I_X8_kept 60 [some (.ref M.2.2.1), some (.int a1), some (.int a2), some (.int a3), some (.int ((if 0 ≤ a3 then if a3 ≤ 99 then a3 else (99 : Int32) else (0 : Int32))))] [.int v8, .int (S.1 6), .ref M.2.2.1] S (fun v S' => ∃ r, v = some (.int r) ∧ K r S') := by
            rintro _ rfl
            refine qm_iadd E_X8_kept dX8_kept_60 ?_
            refine qm_put E_X8_kept rfl 6 (by decide) q1663 rfl rfl rfl (qm_set6) dX8_kept_61 ?_
            refine qm_iload E_X8_kept (by rfl) dX8_kept_64 ?_
            exact qm_iret E_X8_kept rfl dX8_kept_66 ⟨_, rfl, h⟩
          refine qm_icmp_ne E_X8_kept 59 dX8_kept_52 (by decide) (fun (c7 : ¬ ((if 0 ≤ a3 then if a3 ≤ 99 then a3 else (99 : Int32) else (0 : Int32))) = a3) => ?_) (fun (c7 : ((if 0 ≤ a3 then if a3 ≤ 99 then a3 else (99 : Int32) else (0 : Int32))) = a3) => ?_)
          · refine qm_iconst E_X8_kept 1 (by decide) dX8_kept_59 ?_
            exact Jv8 ((1 : Int32)) (by rw [if_neg c7])
          · refine qm_iconst E_X8_kept 0 (by decide) dX8_kept_55 ?_
            refine qm_goto E_X8_kept 60 dX8_kept_56 (by decide) ?_
            exact Jv8 ((0 : Int32)) (by rw [if_pos c7])
        refine qm_if_ge E_X8_kept 30 dX8_kept_23 (by decide) (fun (c4 : 0 ≤ a3) => ?_) (fun (c4 : ¬ 0 ≤ a3) => ?_)
        · refine qm_iload_n E_X8_kept (by rfl) dX8_kept_30 ?_
          refine qm_bipush E_X8_kept 99 (by decide) dX8_kept_31 ?_
          refine qm_icmp_le E_X8_kept 41 dX8_kept_33 (by decide) (fun (c5 : a3 ≤ 99) => ?_) (fun (c5 : ¬ a3 ≤ 99) => ?_)
          · refine qm_iload_n E_X8_kept (by rfl) dX8_kept_41 ?_
            exact Jv6 (a3) (by rw [if_pos c4, if_pos c5])
          · refine qm_bipush E_X8_kept 99 (by decide) dX8_kept_36 ?_
            refine qm_goto E_X8_kept 42 dX8_kept_38 (by decide) ?_
            exact Jv6 ((99 : Int32)) (by rw [if_pos c4, if_neg c5])
        · refine qm_iconst E_X8_kept 0 (by decide) dX8_kept_26 ?_
          refine qm_goto E_X8_kept 42 dX8_kept_27 (by decide) ?_
          exact Jv6 ((0 : Int32)) (by rw [if_neg c4])
      · have h := h.2 c3
        refine qm_iload_n E_X8_kept (by rfl) dX8_kept_20 ?_
        exact qm_iret E_X8_kept rfl dX8_kept_21 ⟨_, rfl, h⟩
def I_X8_moves : qh_I := (yX8_moves, cX8_moves, 4, (Option.none : Option Jvm.ClassFile.FieldType), [])
theorem E_X8_moves : I_X8_moves.2.1 = cX8_moves := rfl
theorem M_X8_moves : qh_M I_X8_moves 2 := ⟨by decide, by decide, by decide +kernel, q95, q1997, by decide⟩
def T_X8_moves (a1 a2 : Int32) (S : qm_S) (K : qm_S → Prop) : Prop := vp_in a1 (qm_len 40) ∧ vp_in a2 (qm_len 40) ∧ vp_in a1 (qm_len 41) ∧ vp_in a2 (qm_len 41) ∧ vp_in a1 (qm_len 42) ∧ vp_in a2 (qm_len 42) ∧ vp_in a1 (qm_len 43) ∧ vp_in a2 (qm_len 43) ∧ vp_in a1 (qm_len 44) ∧ vp_in a2 (qm_len 44) ∧ vp_in a1 (qm_len 45) ∧ vp_in a2 (qm_len 45) ∧ vp_in a1 (qm_len 48) ∧ vp_in a2 (qm_len 48) ∧ ∀ X15 : Int32 → qm_S → Prop, (∀ (x16 : Int32) (S17 : qm_S), ((12 ≤ x16 → ∀ X19 : Int32 → qm_S → Prop, (∀ (x20 : Int32) (S21 : qm_S), ((48 ≤ x20 → ∀ X23 : Int32 → qm_S → Prop, (∀ (x24 : Int32) (S25 : qm_S), ((4 ≤ x24 → K S25) ∧ (¬ 4 ≤ x24 → vp_in ((4 * a1) + x24) (qm_len 49) ∧ vp_in ((4 * a2) + x24) (qm_len 49) ∧ vp_in ((4 * a1) + x24) (qm_len 50) ∧ vp_in ((4 * a2) + x24) (qm_len 50) ∧ vp_in ((4 * a1) + x24) (qm_len 51) ∧ vp_in ((4 * a2) + x24) (qm_len 51) ∧ X23 (x24 + 1) ((S25.1, qm_uA (qm_uA (qm_uA S25.2 49 (upd (S25.2 49) ((4 * a2) + x24).toNatClampNeg (S25.2 49 ((4 * a1) + x24).toNatClampNeg))) 50 (upd (S25.2 50) ((4 * a2) + x24).toNatClampNeg (S25.2 50 ((4 * a1) + x24).toNatClampNeg))) 51 (upd (S25.2 51) ((4 * a2) + x24).toNatClampNeg (S25.2 51 ((4 * a1) + x24).toNatClampNeg)))))) → X23 x24 S25) → X23 0 S21) ∧ (¬ 48 ≤ x20 → vp_in ((48 * a1) + x20) (qm_len 47) ∧ vp_in ((48 * a2) + x20) (qm_len 47) ∧ X19 (x20 + 1) ((S21.1, qm_uA S21.2 47 (upd (S21.2 47) ((48 * a2) + x20).toNatClampNeg (S21.2 47 ((48 * a1) + x20).toNatClampNeg)))))) → X19 x20 S21) → X19 0 S17) ∧ (¬ 12 ≤ x16 → vp_in ((12 * a1) + x16) (qm_len 46) ∧ vp_in ((12 * a2) + x16) (qm_len 46) ∧ X15 (x16 + 1) ((S17.1, qm_uA S17.2 46 (upd (S17.2 46) ((12 * a2) + x16).toNatClampNeg (S17.2 46 ((12 * a1) + x16).toNatClampNeg)))))) → X15 x16 S17) → X15 0 ((S.1, qm_uA (qm_uA (qm_uA (qm_uA (qm_uA (qm_uA (qm_uA S.2 40 (upd (S.2 40) a2.toNatClampNeg (S.2 40 a1.toNatClampNeg))) 41 (upd (S.2 41) a2.toNatClampNeg (S.2 41 a1.toNatClampNeg))) 42 (upd (S.2 42) a2.toNatClampNeg (S.2 42 a1.toNatClampNeg))) 43 (upd (S.2 43) a2.toNatClampNeg (S.2 43 a1.toNatClampNeg))) 44 (upd (S.2 44) a2.toNatClampNeg (S.2 44 a1.toNatClampNeg))) 45 (upd (S.2 45) a2.toNatClampNeg (S.2 45 a1.toNatClampNeg))) 48 (upd (S.2 48) a2.toNatClampNeg (S.2 48 a1.toNatClampNeg))))
set_option maxHeartbeats 4000000 in
theorem C_X8_moves {M : qm_G} {d : Nat} (a1 a2 : Int32) (S : qm_S) (K : qm_S → Prop) (h : T_X8_moves a1 a2 S K) : qm_C M (d + 0) I_X8_moves [.ref M.2.2.1, .int a1, .int a2] S (fun v S' => v = none ∧ K S') := by
  refine qm_C.of (by decide) rfl (ls := [some (.ref M.2.2.1), some (.int a1), some (.int a2), none]) rfl (Nat.le_of_ble_eq_true rfl) (qm_ct rfl) ?_
  unfold T_X8_moves at h
  refine qm_aload_n E_X8_moves (by rfl) dX8_moves_0 ?_
  refine qm_get E_X8_moves rfl 40 (by decide) q1697 (v := .ref (M.2.2.2 40)) rfl dX8_moves_1 ?_
  refine qm_iload_n E_X8_moves (by rfl) dX8_moves_4 ?_
  refine qm_aload_n E_X8_moves (by rfl) dX8_moves_5 ?_
  refine qm_get E_X8_moves rfl 40 (by decide) q1697 (v := .ref (M.2.2.2 40)) rfl dX8_moves_6 ?_
  refine qm_iload_n E_X8_moves (by rfl) dX8_moves_9 ?_
  obtain ⟨o1, h⟩ := h
  refine qm_iald E_X8_moves 40 (by decide) rfl o1 dX8_moves_10 ?_
  obtain ⟨o2, h⟩ := h
  refine qm_iast E_X8_moves 40 (by decide) rfl o2 dX8_moves_11 ?_
  refine qm_aload_n E_X8_moves (by rfl) dX8_moves_12 ?_
  refine qm_get E_X8_moves rfl 41 (by decide) q1698 (v := .ref (M.2.2.2 41)) rfl dX8_moves_13 ?_
  refine qm_iload_n E_X8_moves (by rfl) dX8_moves_16 ?_
  refine qm_aload_n E_X8_moves (by rfl) dX8_moves_17 ?_
  refine qm_get E_X8_moves rfl 41 (by decide) q1698 (v := .ref (M.2.2.2 41)) rfl dX8_moves_18 ?_
  refine qm_iload_n E_X8_moves (by rfl) dX8_moves_21 ?_
  obtain ⟨o3, h⟩ := h
  refine qm_iald E_X8_moves 41 (by decide) rfl o3 dX8_moves_22 ?_
  obtain ⟨o4, h⟩ := h
  refine qm_iast E_X8_moves 41 (by decide) rfl o4 dX8_moves_23 ?_
  refine qm_aload_n E_X8_moves (by rfl) dX8_moves_24 ?_
  refine qm_get E_X8_moves rfl 42 (by decide) q1699 (v := .ref (M.2.2.2 42)) rfl dX8_moves_25 ?_
  refine qm_iload_n E_X8_moves (by rfl) dX8_moves_28 ?_
  refine qm_aload_n E_X8_moves (by rfl) dX8_moves_29 ?_
  refine qm_get E_X8_moves rfl 42 (by decide) q1699 (v := .ref (M.2.2.2 42)) rfl dX8_moves_30 ?_
  refine qm_iload_n E_X8_moves (by rfl) dX8_moves_33 ?_
  obtain ⟨o5, h⟩ := h
  refine qm_iald E_X8_moves 42 (by decide) rfl o5 dX8_moves_34 ?_
  obtain ⟨o6, h⟩ := h
  refine qm_iast E_X8_moves 42 (by decide) rfl o6 dX8_moves_35 ?_
  refine qm_aload_n E_X8_moves (by rfl) dX8_moves_36 ?_
  refine qm_get E_X8_moves rfl 43 (by decide) q1700 (v := .ref (M.2.2.2 43)) rfl dX8_moves_37 ?_
  refine qm_iload_n E_X8_moves (by rfl) dX8_moves_40 ?_
  refine qm_aload_n E_X8_moves (by rfl) dX8_moves_41 ?_
  refine qm_get E_X8_moves rfl 43 (by decide) q1700 (v := .ref (M.2.2.2 43)) rfl dX8_moves_42 ?_
  refine qm_iload_n E_X8_moves (by rfl) dX8_moves_45 ?_
  obtain ⟨o7, h⟩ := h
  refine qm_iald E_X8_moves 43 (by decide) rfl o7 dX8_moves_46 ?_
  obtain ⟨o8, h⟩ := h
  refine qm_iast E_X8_moves 43 (by decide) rfl o8 dX8_moves_47 ?_
  refine qm_aload_n E_X8_moves (by rfl) dX8_moves_48 ?_
  refine qm_get E_X8_moves rfl 44 (by decide) q1701 (v := .ref (M.2.2.2 44)) rfl dX8_moves_49 ?_
  refine qm_iload_n E_X8_moves (by rfl) dX8_moves_52 ?_
  refine qm_aload_n E_X8_moves (by rfl) dX8_moves_53 ?_
  refine qm_get E_X8_moves rfl 44 (by decide) q1701 (v := .ref (M.2.2.2 44)) rfl dX8_moves_54 ?_
  refine qm_iload_n E_X8_moves (by rfl) dX8_moves_57 ?_
  obtain ⟨o9, h⟩ := h
  refine qm_iald E_X8_moves 44 (by decide) rfl o9 dX8_moves_58 ?_
  obtain ⟨o10, h⟩ := h
  refine qm_iast E_X8_moves 44 (by decide) rfl o10 dX8_moves_59 ?_
  refine qm_aload_n E_X8_moves (by rfl) dX8_moves_60 ?_
  refine qm_get E_X8_moves rfl 45 (by decide) q1702 (v := .ref (M.2.2.2 45)) rfl dX8_moves_61 ?_
  refine qm_iload_n E_X8_moves (by rfl) dX8_moves_64 ?_
  refine qm_aload_n E_X8_moves (by rfl) dX8_moves_65 ?_
  refine qm_get E_X8_moves rfl 45 (by decide) q1702 (v := .ref (M.2.2.2 45)) rfl dX8_moves_66 ?_
  refine qm_iload_n E_X8_moves (by rfl) dX8_moves_69 ?_
  obtain ⟨o11, h⟩ := h
  refine qm_iald E_X8_moves 45 (by decide) rfl o11 dX8_moves_70 ?_
  obtain ⟨o12, h⟩ := h
  refine qm_iast E_X8_moves 45 (by decide) rfl o12 dX8_moves_71 ?_
  refine qm_aload_n E_X8_moves (by rfl) dX8_moves_72 ?_
  refine qm_get E_X8_moves rfl 48 (by decide) q1705 (v := .ref (M.2.2.2 48)) rfl dX8_moves_73 ?_
  refine qm_iload_n E_X8_moves (by rfl) dX8_moves_76 ?_
  refine qm_aload_n E_X8_moves (by rfl) dX8_moves_77 ?_
  refine qm_get E_X8_moves rfl 48 (by decide) q1705 (v := .ref (M.2.2.2 48)) rfl dX8_moves_78 ?_
  refine qm_iload_n E_X8_moves (by rfl) dX8_moves_81 ?_
  obtain ⟨o13, h⟩ := h
  refine qm_iald E_X8_moves 48 (by decide) rfl o13 dX8_moves_82 ?_
  obtain ⟨o14, h⟩ := h
  refine qm_iast E_X8_moves 48 (by decide) rfl o14 dX8_moves_83 ?_
  refine qm_iconst E_X8_moves 0 (by decide) dX8_moves_84 ?_
  refine qm_istore_n E_X8_moves (by decide) dX8_moves_85 ?_
  refine h (fun x16 S17 => qm_wp M (d + 0) I_X8_moves 86 [some (.ref M.2.2.1), some (.int a1), some (.int a2), some (.int x16)] [] S17 (fun v S' => v = none ∧ K S')) ?_
  intro x16 S17 h
  refine qm_iload_n E_X8_moves (by rfl) dX8_moves_86 ?_
  refine qm_bipush E_X8_moves 12 (by decide) dX8_moves_87 ?_
  refine qm_icmp_ge E_X8_moves 120 dX8_moves_89 (by decide) (fun (c18 : 12 ≤ x16) => ?_) (fun (c18 : ¬ 12 ≤ x16) => ?_)
  · have h := h.1 c18
    refine qm_iconst E_X8_moves 0 (by decide) dX8_moves_120 ?_
    refine qm_istore_n E_X8_moves (by decide) dX8_moves_121 ?_
    refine h (fun x20 S21 => qm_wp M (d + 0) I_X8_moves 122 [some (.ref M.2.2.1), some (.int a1), some (.int a2), some (.int x20)] [] S21 (fun v S' => v = none ∧ K S')) ?_
    intro x20 S21 h
    refine qm_iload_n E_X8_moves (by rfl) dX8_moves_122 ?_
    refine qm_bipush E_X8_moves 48 (by decide) dX8_moves_123 ?_
    refine qm_icmp_ge E_X8_moves 156 dX8_moves_125 (by decide) (fun (c22 : 48 ≤ x20) => ?_) (fun (c22 : ¬ 48 ≤ x20) => ?_)
    · have h := h.1 c22
      refine qm_iconst E_X8_moves 0 (by decide) dX8_moves_156 ?_
      refine qm_istore_n E_X8_moves (by decide) dX8_moves_157 ?_
      refine h (fun x24 S25 => qm_wp M (d + 0) I_X8_moves 158 [some (.ref M.2.2.1), some (.int a1), some (.int a2), some (.int x24)] [] S25 (fun v S' => v = none ∧ K S')) ?_
      intro x24 S25 h
      refine qm_iload_n E_X8_moves (by rfl) dX8_moves_158 ?_
      refine qm_iconst E_X8_moves 4 (by decide) dX8_moves_159 ?_
      refine qm_icmp_ge E_X8_moves 229 dX8_moves_160 (by decide) (fun (c26 : 4 ≤ x24) => ?_) (fun (c26 : ¬ 4 ≤ x24) => ?_)
      · have h := h.1 c26
        exact qm_vret E_X8_moves rfl dX8_moves_229 ⟨rfl, h⟩
      · have h := h.2 c26
        refine qm_aload_n E_X8_moves (by rfl) dX8_moves_163 ?_
        refine qm_get E_X8_moves rfl 49 (by decide) q1706 (v := .ref (M.2.2.2 49)) rfl dX8_moves_164 ?_
        refine qm_iconst E_X8_moves 4 (by decide) dX8_moves_167 ?_
        refine qm_iload_n E_X8_moves (by rfl) dX8_moves_168 ?_
        refine qm_imul E_X8_moves dX8_moves_169 ?_
        refine qm_iload_n E_X8_moves (by rfl) dX8_moves_170 ?_
        refine qm_iadd E_X8_moves dX8_moves_171 ?_
        refine qm_aload_n E_X8_moves (by rfl) dX8_moves_172 ?_
        refine qm_get E_X8_moves rfl 49 (by decide) q1706 (v := .ref (M.2.2.2 49)) rfl dX8_moves_173 ?_
        refine qm_iconst E_X8_moves 4 (by decide) dX8_moves_176 ?_
        refine qm_iload_n E_X8_moves (by rfl) dX8_moves_177 ?_
        refine qm_imul E_X8_moves dX8_moves_178 ?_
        refine qm_iload_n E_X8_moves (by rfl) dX8_moves_179 ?_
        refine qm_iadd E_X8_moves dX8_moves_180 ?_
        obtain ⟨o27, h⟩ := h
        refine qm_iald E_X8_moves 49 (by decide) rfl o27 dX8_moves_181 ?_
        obtain ⟨o28, h⟩ := h
        refine qm_iast E_X8_moves 49 (by decide) rfl o28 dX8_moves_182 ?_
        refine qm_aload_n E_X8_moves (by rfl) dX8_moves_183 ?_
        refine qm_get E_X8_moves rfl 50 (by decide) q1707 (v := .ref (M.2.2.2 50)) rfl dX8_moves_184 ?_
        refine qm_iconst E_X8_moves 4 (by decide) dX8_moves_187 ?_
        refine qm_iload_n E_X8_moves (by rfl) dX8_moves_188 ?_
        refine qm_imul E_X8_moves dX8_moves_189 ?_
        refine qm_iload_n E_X8_moves (by rfl) dX8_moves_190 ?_
        refine qm_iadd E_X8_moves dX8_moves_191 ?_
        refine qm_aload_n E_X8_moves (by rfl) dX8_moves_192 ?_
        refine qm_get E_X8_moves rfl 50 (by decide) q1707 (v := .ref (M.2.2.2 50)) rfl dX8_moves_193 ?_
        refine qm_iconst E_X8_moves 4 (by decide) dX8_moves_196 ?_
        refine qm_iload_n E_X8_moves (by rfl) dX8_moves_197 ?_
        refine qm_imul E_X8_moves dX8_moves_198 ?_
        refine qm_iload_n E_X8_moves (by rfl) dX8_moves_199 ?_
        refine qm_iadd E_X8_moves dX8_moves_200 ?_
        obtain ⟨o29, h⟩ := h
        refine qm_iald E_X8_moves 50 (by decide) rfl o29 dX8_moves_201 ?_
        obtain ⟨o30, h⟩ := h
        refine qm_iast E_X8_moves 50 (by decide) rfl o30 dX8_moves_202 ?_
        refine qm_aload_n E_X8_moves (by rfl) dX8_moves_203 ?_
        refine qm_get E_X8_moves rfl 51 (by decide) q1708 (v := .ref (M.2.2.2 51)) rfl dX8_moves_204 ?_
        refine qm_iconst E_X8_moves 4 (by decide) dX8_moves_207 ?_
        refine qm_iload_n E_X8_moves (by rfl) dX8_moves_208 ?_
        refine qm_imul E_X8_moves dX8_moves_209 ?_
        refine qm_iload_n E_X8_moves (by rfl) dX8_moves_210 ?_
        refine qm_iadd E_X8_moves dX8_moves_211 ?_
        refine qm_aload_n E_X8_moves (by rfl) dX8_moves_212 ?_
        refine qm_get E_X8_moves rfl 51 (by decide) q1708 (v := .ref (M.2.2.2 51)) rfl dX8_moves_213 ?_
        refine qm_iconst E_X8_moves 4 (by decide) dX8_moves_216 ?_
        refine qm_iload_n E_X8_moves (by rfl) dX8_moves_217 ?_
        refine qm_imul E_X8_moves dX8_moves_218 ?_
        refine qm_iload_n E_X8_moves (by rfl) dX8_moves_219 ?_
        refine qm_iadd E_X8_moves dX8_moves_220 ?_
        obtain ⟨o31, h⟩ := h
        refine qm_iald E_X8_moves 51 (by decide) rfl o31 dX8_moves_221 ?_
        obtain ⟨o32, h⟩ := h
        refine qm_iast E_X8_moves 51 (by decide) rfl o32 dX8_moves_222 ?_
        refine qm_iinc E_X8_moves 1 rfl (by decide) (by decide) dX8_moves_223 ?_
        refine qm_goto E_X8_moves 158 dX8_moves_226 (by decide) ?_
        exact h
    · have h := h.2 c22
      refine qm_aload_n E_X8_moves (by rfl) dX8_moves_128 ?_
      refine qm_get E_X8_moves rfl 47 (by decide) q1704 (v := .ref (M.2.2.2 47)) rfl dX8_moves_129 ?_
      refine qm_bipush E_X8_moves 48 (by decide) dX8_moves_132 ?_
      refine qm_iload_n E_X8_moves (by rfl) dX8_moves_134 ?_
      refine qm_imul E_X8_moves dX8_moves_135 ?_
      refine qm_iload_n E_X8_moves (by rfl) dX8_moves_136 ?_
      refine qm_iadd E_X8_moves dX8_moves_137 ?_
      refine qm_aload_n E_X8_moves (by rfl) dX8_moves_138 ?_
      refine qm_get E_X8_moves rfl 47 (by decide) q1704 (v := .ref (M.2.2.2 47)) rfl dX8_moves_139 ?_
      refine qm_bipush E_X8_moves 48 (by decide) dX8_moves_142 ?_
      refine qm_iload_n E_X8_moves (by rfl) dX8_moves_144 ?_
      refine qm_imul E_X8_moves dX8_moves_145 ?_
      refine qm_iload_n E_X8_moves (by rfl) dX8_moves_146 ?_
      refine qm_iadd E_X8_moves dX8_moves_147 ?_
      obtain ⟨o33, h⟩ := h
      refine qm_iald E_X8_moves 47 (by decide) rfl o33 dX8_moves_148 ?_
      obtain ⟨o34, h⟩ := h
      refine qm_iast E_X8_moves 47 (by decide) rfl o34 dX8_moves_149 ?_
      refine qm_iinc E_X8_moves 1 rfl (by decide) (by decide) dX8_moves_150 ?_
      refine qm_goto E_X8_moves 122 dX8_moves_153 (by decide) ?_
      exact h
  · have h := h.2 c18
    refine qm_aload_n E_X8_moves (by rfl) dX8_moves_92 ?_
    refine qm_get E_X8_moves rfl 46 (by decide) q1703 (v := .ref (M.2.2.2 46)) rfl dX8_moves_93 ?_
    refine qm_bipush E_X8_moves 12 (by decide) dX8_moves_96 ?_
    refine qm_iload_n E_X8_moves (by rfl) dX8_moves_98 ?_
    refine qm_imul E_X8_moves dX8_moves_99 ?_
    refine qm_iload_n E_X8_moves (by rfl) dX8_moves_100 ?_
    refine qm_iadd E_X8_moves dX8_moves_101 ?_
    refine qm_aload_n E_X8_moves (by rfl) dX8_moves_102 ?_
    refine qm_get E_X8_moves rfl 46 (by decide) q1703 (v := .ref (M.2.2.2 46)) rfl dX8_moves_103 ?_
    refine qm_bipush E_X8_moves 12 (by decide) dX8_moves_106 ?_
    refine qm_iload_n E_X8_moves (by rfl) dX8_moves_108 ?_
    refine qm_imul E_X8_moves dX8_moves_109 ?_
    refine qm_iload_n E_X8_moves (by rfl) dX8_moves_110 ?_
    refine qm_iadd E_X8_moves dX8_moves_111 ?_
    obtain ⟨o35, h⟩ := h
    refine qm_iald E_X8_moves 46 (by decide) rfl o35 dX8_moves_112 ?_
    obtain ⟨o36, h⟩ := h
    refine qm_iast E_X8_moves 46 (by decide) rfl o36 dX8_moves_113 ?_
    refine qm_iinc E_X8_moves 1 rfl (by decide) (by decide) dX8_moves_114 ?_
    refine qm_goto E_X8_moves 86 dX8_moves_117 (by decide) ?_
    exact h
def I_X8_drops : qh_I := (yX8_drops, cX8_drops, 4, (Option.none : Option Jvm.ClassFile.FieldType), [])
theorem E_X8_drops : I_X8_drops.2.1 = cX8_drops := rfl
theorem M_X8_drops : qh_M I_X8_drops 0 := ⟨by decide, by decide, by decide +kernel, q95, q1993, by decide⟩
def T_X8_drops (S : qm_S) (K : qm_S → Prop) : Prop := ∀ X1 : Int32 → Int32 → qm_S → Prop, (∀ (x2 x3 : Int32) (S4 : qm_S), (((S4.1 39) ≤ x3 → K ((upd S4.1 39 x2, S4.2))) ∧ (¬ (S4.1 39) ≤ x3 → vp_in x3 (qm_len 44) ∧ (((S4.2 44 x3.toNatClampNeg) = ((-1)) → vp_in x3 (qm_len 41) ∧ vp_in x3 (qm_len 40) ∧ vp_in (f_X8_storeOf (S4.2 40 x3.toNatClampNeg)) (qm_len 13)) ∧ (¬ (S4.2 44 x3.toNatClampNeg) = ((-1)) → ((S4.2 44 x3.toNatClampNeg) ≤ (S4.1 8) → True) ∧ (¬ (S4.2 44 x3.toNatClampNeg) ≤ (S4.1 8) → vp_in x3 (qm_len 41) ∧ vp_in x3 (qm_len 40) ∧ vp_in (f_X8_storeOf (S4.2 40 x3.toNatClampNeg)) (qm_len 13)))) ∧ (¬ ((if (S4.2 44 x3.toNatClampNeg) = ((-1)) then if ((S4.1 8) - (S4.2 41 x3.toNatClampNeg)) ≤ (S4.2 13 (f_X8_storeOf (S4.2 40 x3.toNatClampNeg)).toNatClampNeg) then (0 : Int32) else (1 : Int32) else if (S4.2 44 x3.toNatClampNeg) ≤ (S4.1 8) then (1 : Int32) else if ((S4.1 8) - (S4.2 41 x3.toNatClampNeg)) ≤ (S4.2 13 (f_X8_storeOf (S4.2 40 x3.toNatClampNeg)).toNatClampNeg) then (0 : Int32) else (1 : Int32))) = 0 → X1 x2 (x3 + 1) S4) ∧ (((if (S4.2 44 x3.toNatClampNeg) = ((-1)) then if ((S4.1 8) - (S4.2 41 x3.toNatClampNeg)) ≤ (S4.2 13 (f_X8_storeOf (S4.2 40 x3.toNatClampNeg)).toNatClampNeg) then (0 : Int32) else (1 : Int32) else if (S4.2 44 x3.toNatClampNeg) ≤ (S4.1 8) then (1 : Int32) else if ((S4.1 8) - (S4.2 41 x3.toNatClampNeg)) ≤ (S4.2 13 (f_X8_storeOf (S4.2 40 x3.toNatClampNeg)).toNatClampNeg) then (0 : Int32) else (1 : Int32))) = 0 → T_X8_moves x3 x2 S4 (fun S19 => X1 (x2 + 1) (x3 + 1) S19)))) → X1 x2 x3 S4) → X1 0 0 S
set_option maxHeartbeats 4000000 in
theorem C_X8_drops {M : qm_G} {d : Nat} (S : qm_S) (K : qm_S → Prop) (h : T_X8_drops  S K) : qm_C M (d + 1) I_X8_drops [.ref M.2.2.1] S (fun v S' => v = none ∧ K S') := by
  refine qm_C.of (by decide) rfl (ls := [some (.ref M.2.2.1), none, none, none]) rfl (Nat.le_of_ble_eq_true rfl) (qm_ct rfl) ?_
  unfold T_X8_drops at h
  refine qm_iconst E_X8_drops 0 (by decide) dX8_drops_0 ?_
  refine qm_istore_n E_X8_drops (by decide) dX8_drops_1 ?_
  refine qm_iconst E_X8_drops 0 (by decide) dX8_drops_2 ?_
  refine qm_istore_n E_X8_drops (by decide) dX8_drops_3 ?_
  refine h (fun x2 x3 S4 => qm_wp M (d + 1) I_X8_drops 4 [some (.ref M.2.2.1), some (.int x2), some (.int x3), none] [] S4 (fun v S' => v = none ∧ K S')) ?_
  intro x2 x3 S4 h
  refine qm_iload_n E_X8_drops (by rfl) dX8_drops_4 ?_
  refine qm_aload_n E_X8_drops (by rfl) dX8_drops_5 ?_
  refine qm_get E_X8_drops rfl 39 (by decide) q1696 (v := .int (S4.1 39)) rfl dX8_drops_6 ?_
  refine qm_icmp_ge E_X8_drops 88 dX8_drops_9 (by decide) (fun (c5 : (S4.1 39) ≤ x3) => ?_) (fun (c5 : ¬ (S4.1 39) ≤ x3) => ?_)
  · have h := h.1 c5
    refine qm_aload_n E_X8_drops (by rfl) dX8_drops_88 ?_
    refine qm_iload_n E_X8_drops (by rfl) dX8_drops_89 ?_
    refine qm_put E_X8_drops rfl 39 (by decide) q1696 rfl rfl rfl (qm_set39) dX8_drops_90 ?_
    exact qm_vret E_X8_drops rfl dX8_drops_93 ⟨rfl, h⟩
  · have h := h.2 c5
    refine qm_aload_n E_X8_drops (by rfl) dX8_drops_12 ?_
    refine qm_get E_X8_drops rfl 44 (by decide) q1701 (v := .ref (M.2.2.2 44)) rfl dX8_drops_13 ?_
    refine qm_iload_n E_X8_drops (by rfl) dX8_drops_16 ?_
    obtain ⟨o6, h⟩ := h
    refine qm_iald E_X8_drops 44 (by decide) rfl o6 dX8_drops_17 ?_
    refine qm_iconst E_X8_drops (-1) (by decide) dX8_drops_18 ?_
    obtain ⟨h9, h⟩ := h
    have Jv17 : ∀ v17 : Int32, v17 = (if (S4.2 44 x3.toNatClampNeg) = ((-1)) then if ((S4.1 8) - (S4.2 41 x3.toNatClampNeg)) ≤ (S4.2 13 (f_X8_storeOf (S4.2 40 x3.toNatClampNeg)).toNatClampNeg) then (0 : Int32) else (1 : Int32) else if (S4.2 44 x3.toNatClampNeg) ≤ (S4.1 8) then (1 : Int32) else if ((S4.1 8) - (S4.2 41 x3.toNatClampNeg)) ≤ (S4.2 13 (f_X8_storeOf (S4.2 40 x3.toNatClampNeg)).toNatClampNeg) then (0 : Int32) else (1 : Int32)) → qm_wp M (d + 1) I_X8_drops 68 [some (.ref M.2.2.1), some (.int x2), some (.int x3), none] [.int v17] S4 (fun v S' => v = none ∧ K S') := by
      rintro _ rfl
      refine qm_istore_n E_X8_drops (by decide) dX8_drops_68 ?_
      refine qm_iload_n E_X8_drops (by rfl) dX8_drops_69 ?_
      refine qm_if_ne E_X8_drops 82 dX8_drops_70 (by decide) (fun (c18 : ¬ ((if (S4.2 44 x3.toNatClampNeg) = ((-1)) then if ((S4.1 8) - (S4.2 41 x3.toNatClampNeg)) ≤ (S4.2 13 (f_X8_storeOf (S4.2 40 x3.toNatClampNeg)).toNatClampNeg) then (0 : Int32) else (1 : Int32) else if (S4.2 44 x3.toNatClampNeg) ≤ (S4.1 8) then (1 : Int32) else if ((S4.1 8) - (S4.2 41 x3.toNatClampNeg)) ≤ (S4.2 13 (f_X8_storeOf (S4.2 40 x3.toNatClampNeg)).toNatClampNeg) then (0 : Int32) else (1 : Int32))) = 0) => ?_) (fun (c18 : ((if (S4.2 44 x3.toNatClampNeg) = ((-1)) then if ((S4.1 8) - (S4.2 41 x3.toNatClampNeg)) ≤ (S4.2 13 (f_X8_storeOf (S4.2 40 x3.toNatClampNeg)).toNatClampNeg) then (0 : Int32) else (1 : Int32) else if (S4.2 44 x3.toNatClampNeg) ≤ (S4.1 8) then (1 : Int32) else if ((S4.1 8) - (S4.2 41 x3.toNatClampNeg)) ≤ (S4.2 13 (f_X8_storeOf (S4.2 40 x3.toNatClampNeg)).toNatClampNeg) then (0 : Int32) else (1 : Int32))) = 0) => ?_)
      · have h := h.1 c18
        refine qm_iinc E_X8_drops 1 rfl (by decide) (by decide) dX8_drops_82 ?_
        refine qm_goto E_X8_drops 4 dX8_drops_85 (by decide) ?_
        refine qm_drop 3 ?_
        exact h
      · have h := h.2 c18
        refine qm_aload_n E_X8_drops (by rfl) dX8_drops_73 ?_
        refine qm_iload_n E_X8_drops (by rfl) dX8_drops_74 ?_
        refine qm_iload_n E_X8_drops (by rfl) dX8_drops_75 ?_
        refine qm_callV (As := [.int x3, .int x2]) (rest := []) E_X8_drops rfl M_X8_moves rfl q1994 q1996 qs40 rfl rfl rfl (Nat.le_of_ble_eq_true rfl) dX8_drops_76 (qm_C.mono ?_ (C_X8_moves (d := d) x3 x2 S4 _ h))
        rintro _ S19 ⟨rfl, h⟩
        refine qm_iinc E_X8_drops 1 rfl (by decide) (by decide) dX8_drops_79 ?_
        refine qm_iinc E_X8_drops 1 rfl (by decide) (by decide) dX8_drops_82 ?_
        refine qm_goto E_X8_drops 4 dX8_drops_85 (by decide) ?_
        refine qm_drop 3 ?_
        exact h
    have h := h9
    refine qm_icmp_eq E_X8_drops 35 dX8_drops_19 (by decide) (fun (c7 : (S4.2 44 x3.toNatClampNeg) = ((-1))) => ?_) (fun (c7 : ¬ (S4.2 44 x3.toNatClampNeg) = ((-1))) => ?_)
    · have h := h.1 c7
      refine qm_aload_n E_X8_drops (by rfl) dX8_drops_35 ?_
      refine qm_get E_X8_drops rfl 8 (by decide) q1665 (v := .int (S4.1 8)) rfl dX8_drops_36 ?_
      refine qm_aload_n E_X8_drops (by rfl) dX8_drops_39 ?_
      refine qm_get E_X8_drops rfl 41 (by decide) q1698 (v := .ref (M.2.2.2 41)) rfl dX8_drops_40 ?_
      refine qm_iload_n E_X8_drops (by rfl) dX8_drops_43 ?_
      obtain ⟨o8, h⟩ := h
      refine qm_iald E_X8_drops 41 (by decide) rfl o8 dX8_drops_44 ?_
      refine qm_isub E_X8_drops dX8_drops_45 ?_
      refine qm_aload_n E_X8_drops (by rfl) dX8_drops_46 ?_
      refine qm_get E_X8_drops rfl 13 (by decide) q1670 (v := .ref (M.2.2.2 13)) rfl dX8_drops_47 ?_
      refine qm_aload_n E_X8_drops (by rfl) dX8_drops_50 ?_
      refine qm_get E_X8_drops rfl 40 (by decide) q1697 (v := .ref (M.2.2.2 40)) rfl dX8_drops_51 ?_
      refine qm_iload_n E_X8_drops (by rfl) dX8_drops_54 ?_
      obtain ⟨o9, h⟩ := h
      refine qm_iald E_X8_drops 40 (by decide) rfl o9 dX8_drops_55 ?_
      refine qm_callS (As := [.int (S4.2 40 x3.toNatClampNeg)]) (rest := [.ref (M.2.2.2 13), .int ((S4.1 8) - (S4.2 41 x3.toNatClampNeg))]) E_X8_drops rfl M_X8_storeOf rfl q1964 q1965 rfl rfl (Nat.le_of_ble_eq_true rfl) dX8_drops_56 (C_X8_storeOf (d := d) (S4.2 40 x3.toNatClampNeg) S4 _ ?_)
      have o10 := h
      refine qm_iald E_X8_drops 13 (by decide) rfl o10 dX8_drops_59 ?_
      refine qm_icmp_le E_X8_drops 67 dX8_drops_60 (by decide) (fun (c11 : ((S4.1 8) - (S4.2 41 x3.toNatClampNeg)) ≤ (S4.2 13 (f_X8_storeOf (S4.2 40 x3.toNatClampNeg)).toNatClampNeg)) => ?_) (fun (c11 : ¬ ((S4.1 8) - (S4.2 41 x3.toNatClampNeg)) ≤ (S4.2 13 (f_X8_storeOf (S4.2 40 x3.toNatClampNeg)).toNatClampNeg)) => ?_)
      · refine qm_iconst E_X8_drops 0 (by decide) dX8_drops_67 ?_
        exact Jv17 ((0 : Int32)) (by rw [if_pos c7, if_pos c11])
      · refine qm_iconst E_X8_drops 1 (by decide) dX8_drops_63 ?_
        refine qm_goto E_X8_drops 68 dX8_drops_64 (by decide) ?_
        exact Jv17 ((1 : Int32)) (by rw [if_pos c7, if_neg c11])
    · have h := h.2 c7
      refine qm_aload_n E_X8_drops (by rfl) dX8_drops_22 ?_
      refine qm_get E_X8_drops rfl 8 (by decide) q1665 (v := .int (S4.1 8)) rfl dX8_drops_23 ?_
      refine qm_aload_n E_X8_drops (by rfl) dX8_drops_26 ?_
      refine qm_get E_X8_drops rfl 44 (by decide) q1701 (v := .ref (M.2.2.2 44)) rfl dX8_drops_27 ?_
      refine qm_iload_n E_X8_drops (by rfl) dX8_drops_30 ?_
      refine qm_iald E_X8_drops 44 (by decide) rfl o6 dX8_drops_31 ?_
      refine qm_icmp_ge E_X8_drops 63 dX8_drops_32 (by decide) (fun (c12 : (S4.2 44 x3.toNatClampNeg) ≤ (S4.1 8)) => ?_) (fun (c12 : ¬ (S4.2 44 x3.toNatClampNeg) ≤ (S4.1 8)) => ?_)
      · have h := h.1 c12
        refine qm_iconst E_X8_drops 1 (by decide) dX8_drops_63 ?_
        refine qm_goto E_X8_drops 68 dX8_drops_64 (by decide) ?_
        exact Jv17 ((1 : Int32)) (by rw [if_neg c7, if_pos c12])
      · have h := h.2 c12
        refine qm_aload_n E_X8_drops (by rfl) dX8_drops_35 ?_
        refine qm_get E_X8_drops rfl 8 (by decide) q1665 (v := .int (S4.1 8)) rfl dX8_drops_36 ?_
        refine qm_aload_n E_X8_drops (by rfl) dX8_drops_39 ?_
        refine qm_get E_X8_drops rfl 41 (by decide) q1698 (v := .ref (M.2.2.2 41)) rfl dX8_drops_40 ?_
        refine qm_iload_n E_X8_drops (by rfl) dX8_drops_43 ?_
        obtain ⟨o13, h⟩ := h
        refine qm_iald E_X8_drops 41 (by decide) rfl o13 dX8_drops_44 ?_
        refine qm_isub E_X8_drops dX8_drops_45 ?_
        refine qm_aload_n E_X8_drops (by rfl) dX8_drops_46 ?_
        refine qm_get E_X8_drops rfl 13 (by decide) q1670 (v := .ref (M.2.2.2 13)) rfl dX8_drops_47 ?_
        refine qm_aload_n E_X8_drops (by rfl) dX8_drops_50 ?_
        refine qm_get E_X8_drops rfl 40 (by decide) q1697 (v := .ref (M.2.2.2 40)) rfl dX8_drops_51 ?_
        refine qm_iload_n E_X8_drops (by rfl) dX8_drops_54 ?_
        obtain ⟨o14, h⟩ := h
        refine qm_iald E_X8_drops 40 (by decide) rfl o14 dX8_drops_55 ?_
        refine qm_callS (As := [.int (S4.2 40 x3.toNatClampNeg)]) (rest := [.ref (M.2.2.2 13), .int ((S4.1 8) - (S4.2 41 x3.toNatClampNeg))]) E_X8_drops rfl M_X8_storeOf rfl q1964 q1965 rfl rfl (Nat.le_of_ble_eq_true rfl) dX8_drops_56 (C_X8_storeOf (d := d) (S4.2 40 x3.toNatClampNeg) S4 _ ?_)
        have o15 := h
        refine qm_iald E_X8_drops 13 (by decide) rfl o15 dX8_drops_59 ?_
        refine qm_icmp_le E_X8_drops 67 dX8_drops_60 (by decide) (fun (c16 : ((S4.1 8) - (S4.2 41 x3.toNatClampNeg)) ≤ (S4.2 13 (f_X8_storeOf (S4.2 40 x3.toNatClampNeg)).toNatClampNeg)) => ?_) (fun (c16 : ¬ ((S4.1 8) - (S4.2 41 x3.toNatClampNeg)) ≤ (S4.2 13 (f_X8_storeOf (S4.2 40 x3.toNatClampNeg)).toNatClampNeg)) => ?_)
        · refine qm_iconst E_X8_drops 0 (by decide) dX8_drops_67 ?_
          exact Jv17 ((0 : Int32)) (by rw [if_neg c7, if_neg c12, if_pos c16])
        · refine qm_iconst E_X8_drops 1 (by decide) dX8_drops_63 ?_
          refine qm_goto E_X8_drops 68 dX8_drops_64 (by decide) ?_
          exact Jv17 ((1 : Int32)) (by rw [if_neg c7, if_neg c12, if_neg c16])
def I_X8_writes : qh_I := (yX8_writes, cX8_writes, 4, (Option.none : Option Jvm.ClassFile.FieldType), [])
theorem E_X8_writes : I_X8_writes.2.1 = cX8_writes := rfl
theorem M_X8_writes : qh_M I_X8_writes 1 := ⟨by decide, by decide, by decide +kernel, q95, q1989, by decide⟩
def T_X8_writes (a1 : Int32) (S : qm_S) (K : qm_S → Prop) : Prop := vp_in a1 (qm_len 5) ∧ ∀ X2 : Int32 → qm_S → Prop, (∀ (x3 : Int32) (S4 : qm_S), (((S4.1 39) ≤ x3 → T_X8_drops S4 (fun S6 => K S6)) ∧ (¬ (S4.1 39) ≤ x3 → vp_in x3 (qm_len 40) ∧ (¬ (S4.2 40 x3.toNatClampNeg) = a1 → X2 (x3 + 1) S4) ∧ ((S4.2 40 x3.toNatClampNeg) = a1 → vp_in (f_X8_storeOf a1) (qm_len 10) ∧ vp_in x3 (qm_len 43) ∧ vp_in x3 (qm_len 44) ∧ X2 (x3 + 1) ((S4.1, qm_uA (qm_uA S4.2 43 (upd (S4.2 43) x3.toNatClampNeg ((if (S4.2 43 x3.toNatClampNeg) = ((-1)) then (S4.1 7) - 1 else S4.2 43 x3.toNatClampNeg)))) 44 (upd (S4.2 44) x3.toNatClampNeg ((if (S4.2 44 x3.toNatClampNeg) = ((-1)) then (S4.1 8) + (S4.2 10 (f_X8_storeOf a1).toNatClampNeg) else if (S4.2 44 x3.toNatClampNeg) ≤ ((S4.1 8) + (S4.2 10 (f_X8_storeOf a1).toNatClampNeg)) then S4.2 44 x3.toNatClampNeg else (S4.1 8) + (S4.2 10 (f_X8_storeOf a1).toNatClampNeg))))))))) → X2 x3 S4) → X2 0 ((upd S.1 7 ((S.1 7) + 1), qm_uA S.2 5 (upd (S.2 5) a1.toNatClampNeg ((S.1 7) + 1))))
set_option maxHeartbeats 4000000 in
theorem C_X8_writes {M : qm_G} {d : Nat} (a1 : Int32) (S : qm_S) (K : qm_S → Prop) (h : T_X8_writes a1 S K) : qm_C M (d + 2) I_X8_writes [.ref M.2.2.1, .int a1] S (fun v S' => v = none ∧ K S') := by
  refine qm_C.of (by decide) rfl (ls := [some (.ref M.2.2.1), some (.int a1), none, none]) rfl (Nat.le_of_ble_eq_true rfl) (qm_ct rfl) ?_
  unfold T_X8_writes at h
  refine qm_aload_n E_X8_writes (by rfl) dX8_writes_0 ?_
  refine qm_dup E_X8_writes rfl dX8_writes_1 ?_
  refine qm_get E_X8_writes rfl 7 (by decide) q1664 (v := .int (S.1 7)) rfl dX8_writes_2 ?_
  refine qm_iconst E_X8_writes 1 (by decide) dX8_writes_5 ?_
  refine qm_iadd E_X8_writes dX8_writes_6 ?_
  refine qm_put E_X8_writes rfl 7 (by decide) q1664 rfl rfl rfl (qm_set7) dX8_writes_7 ?_
  refine qm_aload_n E_X8_writes (by rfl) dX8_writes_10 ?_
  refine qm_get E_X8_writes rfl 5 (by decide) q1662 (v := .ref (M.2.2.2 5)) rfl dX8_writes_11 ?_
  refine qm_iload_n E_X8_writes (by rfl) dX8_writes_14 ?_
  refine qm_aload_n E_X8_writes (by rfl) dX8_writes_15 ?_
  refine qm_get E_X8_writes rfl 7 (by decide) q1664 (v := .int ((S.1 7) + 1)) rfl dX8_writes_16 ?_
  obtain ⟨o1, h⟩ := h
  refine qm_iast E_X8_writes 5 (by decide) rfl o1 dX8_writes_19 ?_
  refine qm_iconst E_X8_writes 0 (by decide) dX8_writes_20 ?_
  refine qm_istore_n E_X8_writes (by decide) dX8_writes_21 ?_
  refine h (fun x3 S4 => qm_wp M (d + 2) I_X8_writes 22 [some (.ref M.2.2.1), some (.int a1), some (.int x3), none] [] S4 (fun v S' => v = none ∧ K S')) ?_
  intro x3 S4 h
  refine qm_iload_n E_X8_writes (by rfl) dX8_writes_22 ?_
  refine qm_aload_n E_X8_writes (by rfl) dX8_writes_23 ?_
  refine qm_get E_X8_writes rfl 39 (by decide) q1696 (v := .int (S4.1 39)) rfl dX8_writes_24 ?_
  refine qm_icmp_ge E_X8_writes 128 dX8_writes_27 (by decide) (fun (c5 : (S4.1 39) ≤ x3) => ?_) (fun (c5 : ¬ (S4.1 39) ≤ x3) => ?_)
  · have h := h.1 c5
    refine qm_aload_n E_X8_writes (by rfl) dX8_writes_128 ?_
    refine qm_callV (As := []) (rest := []) E_X8_writes rfl M_X8_drops rfl q1990 q1992 qs39 rfl rfl rfl (Nat.le_of_ble_eq_true rfl) dX8_writes_129 (qm_C.mono ?_ (C_X8_drops (d := d)  S4 _ h))
    rintro _ S6 ⟨rfl, h⟩
    exact qm_vret E_X8_writes rfl dX8_writes_132 ⟨rfl, h⟩
  · have h := h.2 c5
    refine qm_aload_n E_X8_writes (by rfl) dX8_writes_30 ?_
    refine qm_get E_X8_writes rfl 40 (by decide) q1697 (v := .ref (M.2.2.2 40)) rfl dX8_writes_31 ?_
    refine qm_iload_n E_X8_writes (by rfl) dX8_writes_34 ?_
    obtain ⟨o7, h⟩ := h
    refine qm_iald E_X8_writes 40 (by decide) rfl o7 dX8_writes_35 ?_
    refine qm_iload_n E_X8_writes (by rfl) dX8_writes_36 ?_
    refine qm_icmp_ne E_X8_writes 122 dX8_writes_37 (by decide) (fun (c8 : ¬ (S4.2 40 x3.toNatClampNeg) = a1) => ?_) (fun (c8 : (S4.2 40 x3.toNatClampNeg) = a1) => ?_)
    · have h := h.1 c8
      refine qm_iinc E_X8_writes 1 rfl (by decide) (by decide) dX8_writes_122 ?_
      refine qm_goto E_X8_writes 22 dX8_writes_125 (by decide) ?_
      exact h
    · have h := h.2 c8
      refine qm_aload_n E_X8_writes (by rfl) dX8_writes_40 ?_
      refine qm_get E_X8_writes rfl 8 (by decide) q1665 (v := .int (S4.1 8)) rfl dX8_writes_41 ?_
      refine qm_aload_n E_X8_writes (by rfl) dX8_writes_44 ?_
      refine qm_get E_X8_writes rfl 10 (by decide) q1667 (v := .ref (M.2.2.2 10)) rfl dX8_writes_45 ?_
      refine qm_iload_n E_X8_writes (by rfl) dX8_writes_48 ?_
      refine qm_callS (As := [.int a1]) (rest := [.ref (M.2.2.2 10), .int (S4.1 8)]) E_X8_writes rfl M_X8_storeOf rfl q1964 q1965 rfl rfl (Nat.le_of_ble_eq_true rfl) dX8_writes_49 (C_X8_storeOf (d := d + 1) a1 S4 _ ?_)
      obtain ⟨o9, h⟩ := h
      refine qm_iald E_X8_writes 10 (by decide) rfl o9 dX8_writes_52 ?_
      refine qm_iadd E_X8_writes dX8_writes_53 ?_
      refine qm_istore_n E_X8_writes (by decide) dX8_writes_54 ?_
      refine qm_aload_n E_X8_writes (by rfl) dX8_writes_55 ?_
      refine qm_get E_X8_writes rfl 43 (by decide) q1700 (v := .ref (M.2.2.2 43)) rfl dX8_writes_56 ?_
      refine qm_iload_n E_X8_writes (by rfl) dX8_writes_59 ?_
      refine qm_aload_n E_X8_writes (by rfl) dX8_writes_60 ?_
      refine qm_get E_X8_writes rfl 43 (by decide) q1700 (v := .ref (M.2.2.2 43)) rfl dX8_writes_61 ?_
      refine qm_iload_n E_X8_writes (by rfl) dX8_writes_64 ?_
      obtain ⟨o10, h⟩ := h
      refine qm_iald E_X8_writes 43 (by decide) rfl o10 dX8_writes_65 ?_
      refine qm_iconst E_X8_writes (-1) (by decide) dX8_writes_66 ?_
      have Jv12 : ∀ v12 : Int32, v12 = (if (S4.2 43 x3.toNatClampNeg) = ((-1)) then (S4.1 7) - 1 else S4.2 43 x3.toNatClampNeg) → qm_wp M (d + 2) I_X8_writes 85 [some (.ref M.2.2.1), some (.int a1), some (.int x3), some (.int ((S4.1 8) + (S4.2 10 (f_X8_storeOf a1).toNatClampNeg)))] [.int v12, .int x3, .ref (M.2.2.2 43)] S4 (fun v S' => v = none ∧ K S') := by
        rintro _ rfl
        refine qm_iast E_X8_writes 43 (by decide) rfl o10 dX8_writes_85 ?_
        refine qm_aload_n E_X8_writes (by rfl) dX8_writes_86 ?_
        refine qm_get E_X8_writes rfl 44 (by decide) q1701 (v := .ref (M.2.2.2 44)) rfl dX8_writes_87 ?_
        refine qm_iload_n E_X8_writes (by rfl) dX8_writes_90 ?_
        refine qm_aload_n E_X8_writes (by rfl) dX8_writes_91 ?_
        refine qm_get E_X8_writes rfl 44 (by decide) q1701 (v := .ref (M.2.2.2 44)) rfl dX8_writes_92 ?_
        refine qm_iload_n E_X8_writes (by rfl) dX8_writes_95 ?_
        obtain ⟨o13, h⟩ := h
        refine qm_iald E_X8_writes 44 (by decide) rfl o13 dX8_writes_96 ?_
        refine qm_iconst E_X8_writes (-1) (by decide) dX8_writes_97 ?_
        have Jv16 : ∀ v16 : Int32, v16 = (if (S4.2 44 x3.toNatClampNeg) = ((-1)) then (S4.1 8) + (S4.2 10 (f_X8_storeOf a1).toNatClampNeg) else if (S4.2 44 x3.toNatClampNeg) ≤ ((S4.1 8) + (S4.2 10 (f_X8_storeOf a1).toNatClampNeg)) then S4.2 44 x3.toNatClampNeg else (S4.1 8) + (S4.2 10 (f_X8_storeOf a1).toNatClampNeg)) → qm_wp M (d + 2) I_X8_writes 121 [some (.ref M.2.2.1), some (.int a1), some (.int x3), some (.int ((S4.1 8) + (S4.2 10 (f_X8_storeOf a1).toNatClampNeg)))] [.int v16, .int x3, .ref (M.2.2.2 44)] (S4.1, qm_uA S4.2 43 (upd (S4.2 43) x3.toNatClampNeg ((if (S4.2 43 x3.toNatClampNeg) = ((-1)) then (S4.1 7) - 1 else S4.2 43 x3.toNatClampNeg)))) (fun v S' => v = none ∧ K S') := by
          rintro _ rfl
          refine qm_iast E_X8_writes 44 (by decide) rfl o13 dX8_writes_121 ?_
          refine qm_iinc E_X8_writes 1 rfl (by decide) (by decide) dX8_writes_122 ?_
          refine qm_goto E_X8_writes 22 dX8_writes_125 (by decide) ?_
          refine qm_drop 3 ?_
          exact h
        refine qm_icmp_eq E_X8_writes 111 dX8_writes_98 (by decide) (fun (c14 : (S4.2 44 x3.toNatClampNeg) = ((-1))) => ?_) (fun (c14 : ¬ (S4.2 44 x3.toNatClampNeg) = ((-1))) => ?_)
        · refine qm_iload_n E_X8_writes (by rfl) dX8_writes_111 ?_
          refine qm_goto E_X8_writes 121 dX8_writes_112 (by decide) ?_
          exact Jv16 ((S4.1 8) + (S4.2 10 (f_X8_storeOf a1).toNatClampNeg)) (by rw [if_pos c14])
        · refine qm_iload_n E_X8_writes (by rfl) dX8_writes_101 ?_
          refine qm_aload_n E_X8_writes (by rfl) dX8_writes_102 ?_
          refine qm_get E_X8_writes rfl 44 (by decide) q1701 (v := .ref (M.2.2.2 44)) rfl dX8_writes_103 ?_
          refine qm_iload_n E_X8_writes (by rfl) dX8_writes_106 ?_
          refine qm_iald E_X8_writes 44 (by decide) rfl o13 dX8_writes_107 ?_
          refine qm_icmp_ge E_X8_writes 115 dX8_writes_108 (by decide) (fun (c15 : (S4.2 44 x3.toNatClampNeg) ≤ ((S4.1 8) + (S4.2 10 (f_X8_storeOf a1).toNatClampNeg))) => ?_) (fun (c15 : ¬ (S4.2 44 x3.toNatClampNeg) ≤ ((S4.1 8) + (S4.2 10 (f_X8_storeOf a1).toNatClampNeg))) => ?_)
          · refine qm_aload_n E_X8_writes (by rfl) dX8_writes_115 ?_
            refine qm_get E_X8_writes rfl 44 (by decide) q1701 (v := .ref (M.2.2.2 44)) rfl dX8_writes_116 ?_
            refine qm_iload_n E_X8_writes (by rfl) dX8_writes_119 ?_
            refine qm_iald E_X8_writes 44 (by decide) rfl o13 dX8_writes_120 ?_
            exact Jv16 (S4.2 44 x3.toNatClampNeg) (by rw [if_neg c14, if_pos c15])
          · refine qm_iload_n E_X8_writes (by rfl) dX8_writes_111 ?_
            refine qm_goto E_X8_writes 121 dX8_writes_112 (by decide) ?_
            exact Jv16 ((S4.1 8) + (S4.2 10 (f_X8_storeOf a1).toNatClampNeg)) (by rw [if_neg c14, if_neg c15])
      refine qm_icmp_ne E_X8_writes 79 dX8_writes_67 (by decide) (fun (c11 : ¬ (S4.2 43 x3.toNatClampNeg) = ((-1))) => ?_) (fun (c11 : (S4.2 43 x3.toNatClampNeg) = ((-1))) => ?_)
      · refine qm_aload_n E_X8_writes (by rfl) dX8_writes_79 ?_
        refine qm_get E_X8_writes rfl 43 (by decide) q1700 (v := .ref (M.2.2.2 43)) rfl dX8_writes_80 ?_
        refine qm_iload_n E_X8_writes (by rfl) dX8_writes_83 ?_
        refine qm_iald E_X8_writes 43 (by decide) rfl o10 dX8_writes_84 ?_
        exact Jv12 (S4.2 43 x3.toNatClampNeg) (by rw [if_neg c11])
      · refine qm_aload_n E_X8_writes (by rfl) dX8_writes_70 ?_
        refine qm_get E_X8_writes rfl 7 (by decide) q1664 (v := .int (S4.1 7)) rfl dX8_writes_71 ?_
        refine qm_iconst E_X8_writes 1 (by decide) dX8_writes_74 ?_
        refine qm_isub E_X8_writes dX8_writes_75 ?_
        refine qm_goto E_X8_writes 85 dX8_writes_76 (by decide) ?_
        exact Jv12 ((S4.1 7) - 1) (by rw [if_pos c11])
def I_X8_inserts : qh_I := (yX8_inserts, cX8_inserts, 10, (Option.none : Option Jvm.ClassFile.FieldType), [])
theorem E_X8_inserts : I_X8_inserts.2.1 = cX8_inserts := rfl
theorem M_X8_inserts : qh_M I_X8_inserts 6 := ⟨by decide, by decide, by decide +kernel, q95, q1985, by decide⟩
def T_X8_inserts (a1 a2 a3 a4 a5 a6 : Int32) (S : qm_S) (K : qm_S → Prop) : Prop := vp_in a1 (qm_len 1) ∧ ∀ X2 : Int32 → qm_S → Prop, (∀ (x3 : Int32) (S4 : qm_S), (∀ J15 : Prop, ((vp_in ((12 * a1) + x3) (qm_len 2) ∧ vp_in (4 * ((12 * a1) + x3)) (qm_len 3) ∧ vp_in ((4 * ((12 * a1) + x3)) + 1) (qm_len 3) ∧ vp_in ((4 * ((12 * a1) + x3)) + 2) (qm_len 3) ∧ vp_in ((4 * ((12 * a1) + x3)) + 3) (qm_len 3) ∧ T_X8_writes a1 ((S4.1, qm_uA (qm_uA (qm_uA (qm_uA (qm_uA (qm_uA S4.2 2 (upd (S4.2 2) ((12 * a1) + x3).toNatClampNeg a2)) 3 (upd (S4.2 3) (4 * ((12 * a1) + x3)).toNatClampNeg a3)) 3 (upd (upd (S4.2 3) (4 * ((12 * a1) + x3)).toNatClampNeg a3) ((4 * ((12 * a1) + x3)) + 1).toNatClampNeg a4)) 3 (upd (upd (upd (S4.2 3) (4 * ((12 * a1) + x3)).toNatClampNeg a3) ((4 * ((12 * a1) + x3)) + 1).toNatClampNeg a4) ((4 * ((12 * a1) + x3)) + 2).toNatClampNeg a5)) 3 (upd (upd (upd (upd (S4.2 3) (4 * ((12 * a1) + x3)).toNatClampNeg a3) ((4 * ((12 * a1) + x3)) + 1).toNatClampNeg a4) ((4 * ((12 * a1) + x3)) + 2).toNatClampNeg a5) ((4 * ((12 * a1) + x3)) + 3).toNatClampNeg a6)) 1 (upd (S4.2 1) a1.toNatClampNeg ((S4.2 1 a1.toNatClampNeg) + 1)))) (fun S21 => K S21)) → J15) → (x3 ≤ 0 → J15) ∧ (¬ x3 ≤ 0 → vp_in (((12 * a1) + x3) - 1) (qm_len 2) ∧ ((S4.2 2 (((12 * a1) + x3) - 1).toNatClampNeg) ≤ a2 → J15) ∧ (¬ (S4.2 2 (((12 * a1) + x3) - 1).toNatClampNeg) ≤ a2 → vp_in ((12 * a1) + x3) (qm_len 2) ∧ ∀ X9 : Int32 → qm_S → Prop, (∀ (x10 : Int32) (S11 : qm_S), ((4 ≤ x10 → X2 (x3 + (-1)) S11) ∧ (¬ 4 ≤ x10 → vp_in ((4 * (((12 * a1) + x3) - 1)) + x10) (qm_len 3) ∧ vp_in ((4 * ((12 * a1) + x3)) + x10) (qm_len 3) ∧ X9 (x10 + 1) ((S11.1, qm_uA S11.2 3 (upd (S11.2 3) ((4 * ((12 * a1) + x3)) + x10).toNatClampNeg (S11.2 3 ((4 * (((12 * a1) + x3) - 1)) + x10).toNatClampNeg)))))) → X9 x10 S11) → X9 0 ((S4.1, qm_uA S4.2 2 (upd (S4.2 2) ((12 * a1) + x3).toNatClampNeg (S4.2 2 (((12 * a1) + x3) - 1).toNatClampNeg))))))) → X2 x3 S4) → X2 (S.2 1 a1.toNatClampNeg) S
set_option maxHeartbeats 4000000 in
theorem C_X8_inserts {M : qm_G} {d : Nat} (a1 a2 a3 a4 a5 a6 : Int32) (S : qm_S) (K : qm_S → Prop) (h : T_X8_inserts a1 a2 a3 a4 a5 a6 S K) : qm_C M (d + 3) I_X8_inserts [.ref M.2.2.1, .int a1, .int a2, .int a3, .int a4, .int a5, .int a6] S (fun v S' => v = none ∧ K S') := by
  refine qm_C.of (by decide) rfl (ls := [some (.ref M.2.2.1), some (.int a1), some (.int a2), some (.int a3), some (.int a4), some (.int a5), some (.int a6), none, none, none]) rfl (Nat.le_of_ble_eq_true rfl) (qm_ct rfl) ?_
  unfold T_X8_inserts at h
  refine qm_aload_n E_X8_inserts (by rfl) dX8_inserts_0 ?_
  refine qm_get E_X8_inserts rfl 1 (by decide) q1658 (v := .ref (M.2.2.2 1)) rfl dX8_inserts_1 ?_
  refine qm_iload_n E_X8_inserts (by rfl) dX8_inserts_4 ?_
  obtain ⟨o1, h⟩ := h
  refine qm_iald E_X8_inserts 1 (by decide) rfl o1 dX8_inserts_5 ?_
  refine qm_istore E_X8_inserts (by decide) dX8_inserts_6 ?_
  refine h (fun x3 S4 => qm_wp M (d + 3) I_X8_inserts 8 [some (.ref M.2.2.1), some (.int a1), some (.int a2), some (.int a3), some (.int a4), some (.int a5), some (.int a6), some (.int x3), none, none] [] S4 (fun v S' => v = none ∧ K S')) ?_
  intro x3 S4 h
  refine qm_iload E_X8_inserts (by rfl) dX8_inserts_8 ?_
  have h := h (qm_wp M (d + 3) I_X8_inserts 103 [some (.ref M.2.2.1), some (.int a1), some (.int a2), some (.int a3), some (.int a4), some (.int a5), some (.int a6), some (.int x3), none, none] [] S4 (fun v S' => v = none ∧ K S')) (by
    intro h
    refine qm_bipush E_X8_inserts 12 (by decide) dX8_inserts_103 ?_
    refine qm_iload_n E_X8_inserts (by rfl) dX8_inserts_105 ?_
    refine qm_imul E_X8_inserts dX8_inserts_106 ?_
    refine qm_iload E_X8_inserts (by rfl) dX8_inserts_107 ?_
    refine qm_iadd E_X8_inserts dX8_inserts_109 ?_
    refine qm_istore E_X8_inserts (by decide) dX8_inserts_110 ?_
    refine qm_aload_n E_X8_inserts (by rfl) dX8_inserts_112 ?_
    refine qm_get E_X8_inserts rfl 2 (by decide) q1659 (v := .ref (M.2.2.2 2)) rfl dX8_inserts_113 ?_
    refine qm_iload E_X8_inserts (by rfl) dX8_inserts_116 ?_
    refine qm_iload_n E_X8_inserts (by rfl) dX8_inserts_118 ?_
    obtain ⟨o16, h⟩ := h
    refine qm_iast E_X8_inserts 2 (by decide) rfl o16 dX8_inserts_119 ?_
    refine qm_aload_n E_X8_inserts (by rfl) dX8_inserts_120 ?_
    refine qm_get E_X8_inserts rfl 3 (by decide) q1660 (v := .ref (M.2.2.2 3)) rfl dX8_inserts_121 ?_
    refine qm_iconst E_X8_inserts 4 (by decide) dX8_inserts_124 ?_
    refine qm_iload E_X8_inserts (by rfl) dX8_inserts_125 ?_
    refine qm_imul E_X8_inserts dX8_inserts_127 ?_
    refine qm_iload_n E_X8_inserts (by rfl) dX8_inserts_128 ?_
    obtain ⟨o17, h⟩ := h
    refine qm_iast E_X8_inserts 3 (by decide) rfl o17 dX8_inserts_129 ?_
    refine qm_aload_n E_X8_inserts (by rfl) dX8_inserts_130 ?_
    refine qm_get E_X8_inserts rfl 3 (by decide) q1660 (v := .ref (M.2.2.2 3)) rfl dX8_inserts_131 ?_
    refine qm_iconst E_X8_inserts 4 (by decide) dX8_inserts_134 ?_
    refine qm_iload E_X8_inserts (by rfl) dX8_inserts_135 ?_
    refine qm_imul E_X8_inserts dX8_inserts_137 ?_
    refine qm_iconst E_X8_inserts 1 (by decide) dX8_inserts_138 ?_
    refine qm_iadd E_X8_inserts dX8_inserts_139 ?_
    refine qm_iload E_X8_inserts (by rfl) dX8_inserts_140 ?_
    obtain ⟨o18, h⟩ := h
    refine qm_iast E_X8_inserts 3 (by decide) rfl o18 dX8_inserts_142 ?_
    refine qm_aload_n E_X8_inserts (by rfl) dX8_inserts_143 ?_
    refine qm_get E_X8_inserts rfl 3 (by decide) q1660 (v := .ref (M.2.2.2 3)) rfl dX8_inserts_144 ?_
    refine qm_iconst E_X8_inserts 4 (by decide) dX8_inserts_147 ?_
    refine qm_iload E_X8_inserts (by rfl) dX8_inserts_148 ?_
    refine qm_imul E_X8_inserts dX8_inserts_150 ?_
    refine qm_iconst E_X8_inserts 2 (by decide) dX8_inserts_151 ?_
    refine qm_iadd E_X8_inserts dX8_inserts_152 ?_
    refine qm_iload E_X8_inserts (by rfl) dX8_inserts_153 ?_
    obtain ⟨o19, h⟩ := h
    refine qm_iast E_X8_inserts 3 (by decide) rfl o19 dX8_inserts_155 ?_
    refine qm_aload_n E_X8_inserts (by rfl) dX8_inserts_156 ?_
    refine qm_get E_X8_inserts rfl 3 (by decide) q1660 (v := .ref (M.2.2.2 3)) rfl dX8_inserts_157 ?_
    refine qm_iconst E_X8_inserts 4 (by decide) dX8_inserts_160 ?_
    refine qm_iload E_X8_inserts (by rfl) dX8_inserts_161 ?_
    refine qm_imul E_X8_inserts dX8_inserts_163 ?_
    refine qm_iconst E_X8_inserts 3 (by decide) dX8_inserts_164 ?_
    refine qm_iadd E_X8_inserts dX8_inserts_165 ?_
    refine qm_iload E_X8_inserts (by rfl) dX8_inserts_166 ?_
    obtain ⟨o20, h⟩ := h
    refine qm_iast E_X8_inserts 3 (by decide) rfl o20 dX8_inserts_168 ?_
    refine qm_aload_n E_X8_inserts (by rfl) dX8_inserts_169 ?_
    refine qm_get E_X8_inserts rfl 1 (by decide) q1658 (v := .ref (M.2.2.2 1)) rfl dX8_inserts_170 ?_
    refine qm_iload_n E_X8_inserts (by rfl) dX8_inserts_173 ?_
    refine qm_dup2 E_X8_inserts rfl rfl dX8_inserts_174 ?_
    refine qm_iald E_X8_inserts 1 (by decide) rfl o1 dX8_inserts_175 ?_
    refine qm_iconst E_X8_inserts 1 (by decide) dX8_inserts_176 ?_
    refine qm_iadd E_X8_inserts dX8_inserts_177 ?_
    refine qm_iast E_X8_inserts 1 (by decide) rfl o1 dX8_inserts_178 ?_
    refine qm_aload_n E_X8_inserts (by rfl) dX8_inserts_179 ?_
    refine qm_iload_n E_X8_inserts (by rfl) dX8_inserts_180 ?_
    refine qm_callV (As := [.int a1]) (rest := []) E_X8_inserts rfl M_X8_writes rfl q1986 q1988 qs38 rfl rfl rfl (Nat.le_of_ble_eq_true rfl) dX8_inserts_181 (qm_C.mono ?_ (C_X8_writes (d := d) a1 ((S4.1, qm_uA (qm_uA (qm_uA (qm_uA (qm_uA (qm_uA S4.2 2 (upd (S4.2 2) ((12 * a1) + x3).toNatClampNeg a2)) 3 (upd (S4.2 3) (4 * ((12 * a1) + x3)).toNatClampNeg a3)) 3 (upd (upd (S4.2 3) (4 * ((12 * a1) + x3)).toNatClampNeg a3) ((4 * ((12 * a1) + x3)) + 1).toNatClampNeg a4)) 3 (upd (upd (upd (S4.2 3) (4 * ((12 * a1) + x3)).toNatClampNeg a3) ((4 * ((12 * a1) + x3)) + 1).toNatClampNeg a4) ((4 * ((12 * a1) + x3)) + 2).toNatClampNeg a5)) 3 (upd (upd (upd (upd (S4.2 3) (4 * ((12 * a1) + x3)).toNatClampNeg a3) ((4 * ((12 * a1) + x3)) + 1).toNatClampNeg a4) ((4 * ((12 * a1) + x3)) + 2).toNatClampNeg a5) ((4 * ((12 * a1) + x3)) + 3).toNatClampNeg a6)) 1 (upd (S4.2 1) a1.toNatClampNeg ((S4.2 1 a1.toNatClampNeg) + 1)))) _ h))
    rintro _ S21 ⟨rfl, h⟩
    exact qm_vret E_X8_inserts rfl dX8_inserts_184 ⟨rfl, h⟩)
  refine qm_if_le E_X8_inserts 103 dX8_inserts_10 (by decide) (fun (c5 : x3 ≤ 0) => ?_) (fun (c5 : ¬ x3 ≤ 0) => ?_)
  · have h := h.1 c5
    exact h
  · have h := h.2 c5
    refine qm_aload_n E_X8_inserts (by rfl) dX8_inserts_13 ?_
    refine qm_get E_X8_inserts rfl 2 (by decide) q1659 (v := .ref (M.2.2.2 2)) rfl dX8_inserts_14 ?_
    refine qm_bipush E_X8_inserts 12 (by decide) dX8_inserts_17 ?_
    refine qm_iload_n E_X8_inserts (by rfl) dX8_inserts_19 ?_
    refine qm_imul E_X8_inserts dX8_inserts_20 ?_
    refine qm_iload E_X8_inserts (by rfl) dX8_inserts_21 ?_
    refine qm_iadd E_X8_inserts dX8_inserts_23 ?_
    refine qm_iconst E_X8_inserts 1 (by decide) dX8_inserts_24 ?_
    refine qm_isub E_X8_inserts dX8_inserts_25 ?_
    obtain ⟨o6, h⟩ := h
    refine qm_iald E_X8_inserts 2 (by decide) rfl o6 dX8_inserts_26 ?_
    refine qm_iload_n E_X8_inserts (by rfl) dX8_inserts_27 ?_
    refine qm_icmp_le E_X8_inserts 103 dX8_inserts_28 (by decide) (fun (c7 : (S4.2 2 (((12 * a1) + x3) - 1).toNatClampNeg) ≤ a2) => ?_) (fun (c7 : ¬ (S4.2 2 (((12 * a1) + x3) - 1).toNatClampNeg) ≤ a2) => ?_)
    · have h := h.1 c7
      exact h
    · have h := h.2 c7
      refine qm_bipush E_X8_inserts 12 (by decide) dX8_inserts_31 ?_
      refine qm_iload_n E_X8_inserts (by rfl) dX8_inserts_33 ?_
      refine qm_imul E_X8_inserts dX8_inserts_34 ?_
      refine qm_iload E_X8_inserts (by rfl) dX8_inserts_35 ?_
      refine qm_iadd E_X8_inserts dX8_inserts_37 ?_
      refine qm_istore E_X8_inserts (by decide) dX8_inserts_38 ?_
      refine qm_aload_n E_X8_inserts (by rfl) dX8_inserts_40 ?_
      refine qm_get E_X8_inserts rfl 2 (by decide) q1659 (v := .ref (M.2.2.2 2)) rfl dX8_inserts_41 ?_
      refine qm_iload E_X8_inserts (by rfl) dX8_inserts_44 ?_
      refine qm_aload_n E_X8_inserts (by rfl) dX8_inserts_46 ?_
      refine qm_get E_X8_inserts rfl 2 (by decide) q1659 (v := .ref (M.2.2.2 2)) rfl dX8_inserts_47 ?_
      refine qm_iload E_X8_inserts (by rfl) dX8_inserts_50 ?_
      refine qm_iconst E_X8_inserts 1 (by decide) dX8_inserts_52 ?_
      refine qm_isub E_X8_inserts dX8_inserts_53 ?_
      refine qm_iald E_X8_inserts 2 (by decide) rfl o6 dX8_inserts_54 ?_
      obtain ⟨o8, h⟩ := h
      refine qm_iast E_X8_inserts 2 (by decide) rfl o8 dX8_inserts_55 ?_
      refine qm_iconst E_X8_inserts 0 (by decide) dX8_inserts_56 ?_
      refine qm_istore E_X8_inserts (by decide) dX8_inserts_57 ?_
      refine h (fun x10 S11 => qm_wp M (d + 3) I_X8_inserts 59 [some (.ref M.2.2.1), some (.int a1), some (.int a2), some (.int a3), some (.int a4), some (.int a5), some (.int a6), some (.int x3), some (.int ((12 * a1) + x3)), some (.int x10)] [] S11 (fun v S' => v = none ∧ K S')) ?_
      intro x10 S11 h
      refine qm_iload E_X8_inserts (by rfl) dX8_inserts_59 ?_
      refine qm_iconst E_X8_inserts 4 (by decide) dX8_inserts_61 ?_
      refine qm_icmp_ge E_X8_inserts 97 dX8_inserts_62 (by decide) (fun (c12 : 4 ≤ x10) => ?_) (fun (c12 : ¬ 4 ≤ x10) => ?_)
      · have h := h.1 c12
        refine qm_iinc E_X8_inserts (-1) rfl (by decide) (by decide) dX8_inserts_97 ?_
        refine qm_goto E_X8_inserts 8 dX8_inserts_100 (by decide) ?_
        refine qm_drop 8 ?_
        refine qm_drop 9 ?_
        exact h
      · have h := h.2 c12
        refine qm_aload_n E_X8_inserts (by rfl) dX8_inserts_65 ?_
        refine qm_get E_X8_inserts rfl 3 (by decide) q1660 (v := .ref (M.2.2.2 3)) rfl dX8_inserts_66 ?_
        refine qm_iconst E_X8_inserts 4 (by decide) dX8_inserts_69 ?_
        refine qm_iload E_X8_inserts (by rfl) dX8_inserts_70 ?_
        refine qm_imul E_X8_inserts dX8_inserts_72 ?_
        refine qm_iload E_X8_inserts (by rfl) dX8_inserts_73 ?_
        refine qm_iadd E_X8_inserts dX8_inserts_75 ?_
        refine qm_aload_n E_X8_inserts (by rfl) dX8_inserts_76 ?_
        refine qm_get E_X8_inserts rfl 3 (by decide) q1660 (v := .ref (M.2.2.2 3)) rfl dX8_inserts_77 ?_
        refine qm_iconst E_X8_inserts 4 (by decide) dX8_inserts_80 ?_
        refine qm_iload E_X8_inserts (by rfl) dX8_inserts_81 ?_
        refine qm_iconst E_X8_inserts 1 (by decide) dX8_inserts_83 ?_
        refine qm_isub E_X8_inserts dX8_inserts_84 ?_
        refine qm_imul E_X8_inserts dX8_inserts_85 ?_
        refine qm_iload E_X8_inserts (by rfl) dX8_inserts_86 ?_
        refine qm_iadd E_X8_inserts dX8_inserts_88 ?_
        obtain ⟨o13, h⟩ := h
        refine qm_iald E_X8_inserts 3 (by decide) rfl o13 dX8_inserts_89 ?_
        obtain ⟨o14, h⟩ := h
        refine qm_iast E_X8_inserts 3 (by decide) rfl o14 dX8_inserts_90 ?_
        refine qm_iinc E_X8_inserts 1 rfl (by decide) (by decide) dX8_inserts_91 ?_
        refine qm_goto E_X8_inserts 59 dX8_inserts_94 (by decide) ?_
        exact h
def I_X8_adds : qh_I := (yX8_adds, cX8_adds, 7, (Option.some Jvm.ClassFile.FieldType.int), [])
theorem E_X8_adds : I_X8_adds.2.1 = cX8_adds := rfl
theorem M_X8_adds : qh_M I_X8_adds 5 := ⟨by decide, by decide, by decide +kernel, q95, q1977, by decide⟩
def T_X8_adds (a1 a2 a3 a4 a5 : Int32) (S : qm_S) (K : Int32 → qm_S → Prop) : Prop := ((a1 ≤ 1 → vp_in a1 (qm_len 4)) ∧ (¬ a1 ≤ 1 → True)) ∧ vp_in a1 (qm_len 4) ∧ T_X8_kept a1 1 a3 ((S.1, qm_uA S.2 4 (upd (S.2 4) a1.toNatClampNeg ((S.2 4 a1.toNatClampNeg) + ((if a1 ≤ 1 then (1 : Int32) else (0 : Int32))))))) (fun r7 S9 => T_X8_inserts a1 ((if a1 ≤ 1 then S.2 4 a1.toNatClampNeg else a2)) a2 r7 a4 a5 S9 (fun S10 => K ((if a1 ≤ 1 then S.2 4 a1.toNatClampNeg else a2)) S10))
set_option maxHeartbeats 4000000 in
theorem C_X8_adds {M : qm_G} {d : Nat} (a1 a2 a3 a4 a5 : Int32) (S : qm_S) (K : Int32 → qm_S → Prop) (h : T_X8_adds a1 a2 a3 a4 a5 S K) : qm_C M (d + 4) I_X8_adds [.ref M.2.2.1, .int a1, .int a2, .int a3, .int a4, .int a5] S (fun v S' => ∃ r, v = some (.int r) ∧ K r S') := by
  refine qm_C.of (by decide) rfl (ls := [some (.ref M.2.2.1), some (.int a1), some (.int a2), some (.int a3), some (.int a4), some (.int a5), none]) rfl (Nat.le_of_ble_eq_true rfl) (qm_ct rfl) ?_
  unfold T_X8_adds at h
  refine qm_iload_n E_X8_adds (by rfl) dX8_adds_0 ?_
  refine qm_iconst E_X8_adds 1 (by decide) dX8_adds_1 ?_
  obtain ⟨h9, h⟩ := h
  have Jv3 : ∀ v3 : Int32, v3 = (if a1 ≤ 1 then S.2 4 a1.toNatClampNeg else a2) → qm_wp M (d + 4) I_X8_adds 15 [some (.ref M.2.2.1), some (.int a1), some (.int a2), some (.int a3), some (.int a4), some (.int a5), none] [.int v3] S (fun v S' => ∃ r, v = some (.int r) ∧ K r S') := by
    rintro _ rfl
    refine qm_istore E_X8_adds (by decide) dX8_adds_15 ?_
    refine qm_aload_n E_X8_adds (by rfl) dX8_adds_17 ?_
    refine qm_get E_X8_adds rfl 4 (by decide) q1661 (v := .ref (M.2.2.2 4)) rfl dX8_adds_18 ?_
    refine qm_iload_n E_X8_adds (by rfl) dX8_adds_21 ?_
    refine qm_dup2 E_X8_adds rfl rfl dX8_adds_22 ?_
    obtain ⟨o4, h⟩ := h
    refine qm_iald E_X8_adds 4 (by decide) rfl o4 dX8_adds_23 ?_
    refine qm_iload_n E_X8_adds (by rfl) dX8_adds_24 ?_
    refine qm_iconst E_X8_adds 1 (by decide) dX8_adds_25 ?_
    have Jv6 : ∀ v6 : Int32, v6 = (if a1 ≤ 1 then (1 : Int32) else (0 : Int32)) → qm_wp M (d + 4) I_X8_adds 34 [some (.ref M.2.2.1), some (.int a1), some (.int a2), some (.int a3), some (.int a4), some (.int a5), some (.int ((if a1 ≤ 1 then S.2 4 a1.toNatClampNeg else a2)))] [.int v6, .int (S.2 4 a1.toNatClampNeg), .int a1, .ref (M.2.2.2 4)] S (fun v S' => ∃ r, v = some (.int r) ∧ K r S') := by
      rintro _ rfl
      refine qm_iadd E_X8_adds dX8_adds_34 ?_
      refine qm_iast E_X8_adds 4 (by decide) rfl o4 dX8_adds_35 ?_
      refine qm_aload_n E_X8_adds (by rfl) dX8_adds_36 ?_
      refine qm_iload_n E_X8_adds (by rfl) dX8_adds_37 ?_
      refine qm_iload E_X8_adds (by rfl) dX8_adds_38 ?_
      refine qm_iload_n E_X8_adds (by rfl) dX8_adds_40 ?_
      refine qm_aload_n E_X8_adds (by rfl) dX8_adds_41 ?_
      refine qm_iload_n E_X8_adds (by rfl) dX8_adds_42 ?_
      refine qm_iconst E_X8_adds 1 (by decide) dX8_adds_43 ?_
      refine qm_iload_n E_X8_adds (by rfl) dX8_adds_44 ?_
      refine qm_callV (As := [.int a1, .int 1, .int a3]) (rest := [.int a2, .int ((if a1 ≤ 1 then S.2 4 a1.toNatClampNeg else a2)), .int a1, .ref M.2.2.1]) E_X8_adds rfl M_X8_kept rfl q1978 q1980 qs36 rfl rfl rfl (Nat.le_of_ble_eq_true rfl) dX8_adds_45 (qm_C.mono ?_ (C_X8_kept (d := d + 1) a1 1 a3 ((S.1, qm_uA S.2 4 (upd (S.2 4) a1.toNatClampNeg ((S.2 4 a1.toNatClampNeg) + ((if a1 ≤ 1 then (1 : Int32) else (0 : Int32))))))) _ h))
      rintro _ S9 ⟨r7, rfl, h⟩
      refine qm_iload E_X8_adds (by rfl) dX8_adds_48 ?_
      refine qm_iload E_X8_adds (by rfl) dX8_adds_50 ?_
      refine qm_callV (As := [.int a1, .int ((if a1 ≤ 1 then S.2 4 a1.toNatClampNeg else a2)), .int a2, .int r7, .int a4, .int a5]) (rest := []) E_X8_adds rfl M_X8_inserts rfl q1982 q1984 qs37 rfl rfl rfl (Nat.le_of_ble_eq_true rfl) dX8_adds_52 (qm_C.mono ?_ (C_X8_inserts (d := d) a1 ((if a1 ≤ 1 then S.2 4 a1.toNatClampNeg else a2)) a2 r7 a4 a5 S9 _ h))
      rintro _ S10 ⟨rfl, h⟩
      refine qm_iload E_X8_adds (by rfl) dX8_adds_55 ?_
      exact qm_iret E_X8_adds rfl dX8_adds_57 ⟨_, rfl, h⟩
    refine qm_icmp_le E_X8_adds 33 dX8_adds_26 (by decide) (fun (c5 : a1 ≤ 1) => ?_) (fun (c5 : ¬ a1 ≤ 1) => ?_)
    · refine qm_iconst E_X8_adds 1 (by decide) dX8_adds_33 ?_
      exact Jv6 ((1 : Int32)) (by rw [if_pos c5])
    · refine qm_iconst E_X8_adds 0 (by decide) dX8_adds_29 ?_
      refine qm_goto E_X8_adds 34 dX8_adds_30 (by decide) ?_
      exact Jv6 ((0 : Int32)) (by rw [if_neg c5])
  have h := h9
  refine qm_icmp_le E_X8_adds 9 dX8_adds_2 (by decide) (fun (c1 : a1 ≤ 1) => ?_) (fun (c1 : ¬ a1 ≤ 1) => ?_)
  · have h := h.1 c1
    refine qm_aload_n E_X8_adds (by rfl) dX8_adds_9 ?_
    refine qm_get E_X8_adds rfl 4 (by decide) q1661 (v := .ref (M.2.2.2 4)) rfl dX8_adds_10 ?_
    refine qm_iload_n E_X8_adds (by rfl) dX8_adds_13 ?_
    have o2 := h
    refine qm_iald E_X8_adds 4 (by decide) rfl o2 dX8_adds_14 ?_
    exact Jv3 (S.2 4 a1.toNatClampNeg) (by rw [if_pos c1])
  · have h := h.2 c1
    refine qm_iload_n E_X8_adds (by rfl) dX8_adds_5 ?_
    refine qm_goto E_X8_adds 15 dX8_adds_6 (by decide) ?_
    exact Jv3 (a2) (by rw [if_neg c1])
def I_X8_add : qh_I := (yX8_add, cX8_add, 6, (Option.some Jvm.ClassFile.FieldType.int), [])
theorem E_X8_add : I_X8_add.2.1 = cX8_add := rfl
theorem M_X8_add : qh_M I_X8_add 5 := ⟨by decide, by decide, by decide +kernel, q95, q1947, by decide⟩
def T_X8_add (a1 a2 a3 a4 a5 : Int32) (S : qm_S) (K : Int32 → qm_S → Prop) : Prop := ∀ J4 : Int32 → Prop, (∀ (x5 : Int32), ((x5 ≤ 0 → T_X8_adds a1 a2 a3 a4 a5 ((upd S.1 0 x5, S.2)) (fun r7 S9 => K r7 S9)) ∧ (¬ x5 ≤ 0 → K 0 ((upd S.1 0 x5, S.2)))) → J4 x5) → (¬ (f_X8_isSource a1) = 0 → T_X8_canAdd a1 a2 a3 a4 a5 S (fun r2 => J4 r2)) ∧ ((f_X8_isSource a1) = 0 → J4 1)
set_option maxHeartbeats 4000000 in
theorem C_X8_add {M : qm_G} {d : Nat} (a1 a2 a3 a4 a5 : Int32) (S : qm_S) (K : Int32 → qm_S → Prop) (h : T_X8_add a1 a2 a3 a4 a5 S K) : qm_C M (d + 5) I_X8_add [.ref M.2.2.1, .int a1, .int a2, .int a3, .int a4, .int a5] S (fun v S' => ∃ r, v = some (.int r) ∧ K r S') := by
  refine qm_C.of (by decide) rfl (ls := [some (.ref M.2.2.1), some (.int a1), some (.int a2), some (.int a3), some (.int a4), some (.int a5)]) rfl (Nat.le_of_ble_eq_true rfl) (qm_ct rfl) ?_
  unfold T_X8_add at h
  refine qm_aload_n E_X8_add (by rfl) dX8_add_0 ?_
  refine qm_iload_n E_X8_add (by rfl) dX8_add_1 ?_
  refine qm_callS (As := [.int a1]) (rest := [.ref M.2.2.1]) E_X8_add rfl M_X8_isSource rfl q1948 q1949 rfl rfl (Nat.le_of_ble_eq_true rfl) dX8_add_2 (C_X8_isSource (d := d + 3) a1 S _ ?_)
  have h := h (fun x5 => qm_wp M (d + 5) I_X8_add 23 [some (.ref M.2.2.1), some (.int a1), some (.int a2), some (.int a3), some (.int a4), some (.int a5)] [.int x5, .ref M.2.2.1] S (fun v S' => ∃ r, v = some (.int r) ∧ K r S')) (by
    intro x5 h
    refine qm_put E_X8_add rfl 0 (by decide) q1657 rfl rfl rfl (qm_set0) dX8_add_23 ?_
    refine qm_aload_n E_X8_add (by rfl) dX8_add_26 ?_
    refine qm_get E_X8_add rfl 0 (by decide) q1657 (v := .int x5) rfl dX8_add_27 ?_
    refine qm_if_le E_X8_add 37 dX8_add_30 (by decide) (fun (c6 : x5 ≤ 0) => ?_) (fun (c6 : ¬ x5 ≤ 0) => ?_)
    · have h := h.1 c6
      refine qm_aload_n E_X8_add (by rfl) dX8_add_37 ?_
      refine qm_iload_n E_X8_add (by rfl) dX8_add_38 ?_
      refine qm_iload_n E_X8_add (by rfl) dX8_add_39 ?_
      refine qm_iload_n E_X8_add (by rfl) dX8_add_40 ?_
      refine qm_iload E_X8_add (by rfl) dX8_add_41 ?_
      refine qm_iload E_X8_add (by rfl) dX8_add_43 ?_
      refine qm_callV (As := [.int a1, .int a2, .int a3, .int a4, .int a5]) (rest := []) E_X8_add rfl M_X8_adds rfl q1974 q1976 qs35 rfl rfl rfl (Nat.le_of_ble_eq_true rfl) dX8_add_45 (qm_C.mono ?_ (C_X8_adds (d := d) a1 a2 a3 a4 a5 ((upd S.1 0 x5, S.2)) _ h))
      rintro _ S9 ⟨r7, rfl, h⟩
      exact qm_iret E_X8_add rfl dX8_add_48 ⟨_, rfl, h⟩
    · have h := h.2 c6
      refine qm_iconst E_X8_add 0 (by decide) dX8_add_33 ?_
      refine qm_goto E_X8_add 48 dX8_add_34 (by decide) ?_
      exact qm_iret E_X8_add rfl dX8_add_48 ⟨_, rfl, h⟩)
  refine qm_if_ne E_X8_add 12 dX8_add_5 (by decide) (fun (c1 : ¬ (f_X8_isSource a1) = 0) => ?_) (fun (c1 : (f_X8_isSource a1) = 0) => ?_)
  · have h := h.1 c1
    refine qm_aload_n E_X8_add (by rfl) dX8_add_12 ?_
    refine qm_iload_n E_X8_add (by rfl) dX8_add_13 ?_
    refine qm_iload_n E_X8_add (by rfl) dX8_add_14 ?_
    refine qm_iload_n E_X8_add (by rfl) dX8_add_15 ?_
    refine qm_iload E_X8_add (by rfl) dX8_add_16 ?_
    refine qm_iload E_X8_add (by rfl) dX8_add_18 ?_
    refine qm_callV (As := [.int a1, .int a2, .int a3, .int a4, .int a5]) (rest := [.ref M.2.2.1]) E_X8_add rfl M_X8_canAdd rfl q1954 q1956 qs33 rfl rfl rfl (Nat.le_of_ble_eq_true rfl) dX8_add_20 (qm_C.mono ?_ (C_X8_canAdd (d := d + 1) a1 a2 a3 a4 a5 S _ h))
    rintro _ _ ⟨r2, rfl, rfl, h⟩
    exact h
  · have h := h.2 c1
    refine qm_iconst E_X8_add 1 (by decide) dX8_add_8 ?_
    refine qm_goto E_X8_add 23 dX8_add_9 (by decide) ?_
    exact h
def I_X8_canChange : qh_I := (yX8_canChange, cX8_canChange, 5, (Option.some Jvm.ClassFile.FieldType.int), [])
theorem E_X8_canChange : I_X8_canChange.2.1 = cX8_canChange := rfl
theorem M_X8_canChange : qh_M I_X8_canChange 4 := ⟨by decide, by decide, by decide +kernel, q95, q2005, by decide⟩
def T_X8_canChange (a1 a2 a3 a4 : Int32) (S : qm_S) (K : Int32 → Prop) : Prop := T_X8_placeOf a1 a2 S (fun r1 => (r1 = ((-1)) → K 1) ∧ (¬ r1 = ((-1)) → (¬ (f_X8_isColumn a1 a3) = 0 → (a1 ≤ 1 → (¬ (f_X8_isCell a1 a3 a4) = 0 → K 0) ∧ ((f_X8_isCell a1 a3 a4) = 0 → K 2)) ∧ (¬ a1 ≤ 1 → (a3 = 0 → K 2) ∧ (¬ a3 = 0 → (¬ (f_X8_isCell a1 a3 a4) = 0 → K 0) ∧ ((f_X8_isCell a1 a3 a4) = 0 → K 2)))) ∧ ((f_X8_isColumn a1 a3) = 0 → K 1)))
set_option maxHeartbeats 4000000 in
theorem C_X8_canChange {M : qm_G} {d : Nat} (a1 a2 a3 a4 : Int32) (S : qm_S) (K : Int32 → Prop) (h : T_X8_canChange a1 a2 a3 a4 S K) : qm_C M (d + 3) I_X8_canChange [.ref M.2.2.1, .int a1, .int a2, .int a3, .int a4] S (fun v S' => ∃ r, v = some (.int r) ∧ S = S' ∧ K r) := by
  refine qm_C.of (by decide) rfl (ls := [some (.ref M.2.2.1), some (.int a1), some (.int a2), some (.int a3), some (.int a4)]) rfl (Nat.le_of_ble_eq_true rfl) (qm_ct rfl) ?_
  unfold T_X8_canChange at h
  refine qm_aload_n E_X8_canChange (by rfl) dX8_canChange_0 ?_
  refine qm_iload_n E_X8_canChange (by rfl) dX8_canChange_1 ?_
  refine qm_iload_n E_X8_canChange (by rfl) dX8_canChange_2 ?_
  refine qm_callV (As := [.int a1, .int a2]) (rest := []) E_X8_canChange rfl M_X8_placeOf rfl q1970 q1972 qs34 rfl rfl rfl (Nat.le_of_ble_eq_true rfl) dX8_canChange_3 (qm_C.mono ?_ (C_X8_placeOf (d := d + 2) a1 a2 S _ h))
  rintro _ _ ⟨r1, rfl, rfl, h⟩
  refine qm_iconst E_X8_canChange (-1) (by decide) dX8_canChange_6 ?_
  refine qm_icmp_eq E_X8_canChange 18 dX8_canChange_7 (by decide) (fun (c3 : r1 = ((-1))) => ?_) (fun (c3 : ¬ r1 = ((-1))) => ?_)
  · have h := h.1 c3
    refine qm_iconst E_X8_canChange 1 (by decide) dX8_canChange_18 ?_
    exact qm_iret E_X8_canChange rfl dX8_canChange_19 ⟨_, rfl, rfl, h⟩
  · have h := h.2 c3
    refine qm_iload_n E_X8_canChange (by rfl) dX8_canChange_10 ?_
    refine qm_iload_n E_X8_canChange (by rfl) dX8_canChange_11 ?_
    refine qm_callS (As := [.int a1, .int a3]) (rest := []) E_X8_canChange rfl M_X8_isColumn rfl q1961 q1962 rfl rfl (Nat.le_of_ble_eq_true rfl) dX8_canChange_12 (C_X8_isColumn (d := d + 1) a1 a3 S _ ?_)
    refine qm_if_ne E_X8_canChange 20 dX8_canChange_15 (by decide) (fun (c4 : ¬ (f_X8_isColumn a1 a3) = 0) => ?_) (fun (c4 : (f_X8_isColumn a1 a3) = 0) => ?_)
    · have h := h.1 c4
      refine qm_iload_n E_X8_canChange (by rfl) dX8_canChange_20 ?_
      refine qm_iconst E_X8_canChange 1 (by decide) dX8_canChange_21 ?_
      refine qm_icmp_le E_X8_canChange 29 dX8_canChange_22 (by decide) (fun (c5 : a1 ≤ 1) => ?_) (fun (c5 : ¬ a1 ≤ 1) => ?_)
      · have h := h.1 c5
        refine qm_iload_n E_X8_canChange (by rfl) dX8_canChange_29 ?_
        refine qm_iload_n E_X8_canChange (by rfl) dX8_canChange_30 ?_
        refine qm_iload E_X8_canChange (by rfl) dX8_canChange_31 ?_
        refine qm_callS (As := [.int a1, .int a3, .int a4]) (rest := []) E_X8_canChange rfl M_X8_isCell rfl q1958 q1959 rfl rfl (Nat.le_of_ble_eq_true rfl) dX8_canChange_33 (C_X8_isCell (d := d) a1 a3 a4 S _ ?_)
        refine qm_if_ne E_X8_canChange 43 dX8_canChange_36 (by decide) (fun (c6 : ¬ (f_X8_isCell a1 a3 a4) = 0) => ?_) (fun (c6 : (f_X8_isCell a1 a3 a4) = 0) => ?_)
        · have h := h.1 c6
          refine qm_iconst E_X8_canChange 0 (by decide) dX8_canChange_43 ?_
          exact qm_iret E_X8_canChange rfl dX8_canChange_44 ⟨_, rfl, rfl, h⟩
        · have h := h.2 c6
          refine qm_iconst E_X8_canChange 2 (by decide) dX8_canChange_39 ?_
          refine qm_goto E_X8_canChange 44 dX8_canChange_40 (by decide) ?_
          exact qm_iret E_X8_canChange rfl dX8_canChange_44 ⟨_, rfl, rfl, h⟩
      · have h := h.2 c5
        refine qm_iload_n E_X8_canChange (by rfl) dX8_canChange_25 ?_
        refine qm_if_eq E_X8_canChange 39 dX8_canChange_26 (by decide) (fun (c7 : a3 = 0) => ?_) (fun (c7 : ¬ a3 = 0) => ?_)
        · have h := h.1 c7
          refine qm_iconst E_X8_canChange 2 (by decide) dX8_canChange_39 ?_
          refine qm_goto E_X8_canChange 44 dX8_canChange_40 (by decide) ?_
          exact qm_iret E_X8_canChange rfl dX8_canChange_44 ⟨_, rfl, rfl, h⟩
        · have h := h.2 c7
          refine qm_iload_n E_X8_canChange (by rfl) dX8_canChange_29 ?_
          refine qm_iload_n E_X8_canChange (by rfl) dX8_canChange_30 ?_
          refine qm_iload E_X8_canChange (by rfl) dX8_canChange_31 ?_
          refine qm_callS (As := [.int a1, .int a3, .int a4]) (rest := []) E_X8_canChange rfl M_X8_isCell rfl q1958 q1959 rfl rfl (Nat.le_of_ble_eq_true rfl) dX8_canChange_33 (C_X8_isCell (d := d) a1 a3 a4 S _ ?_)
          refine qm_if_ne E_X8_canChange 43 dX8_canChange_36 (by decide) (fun (c8 : ¬ (f_X8_isCell a1 a3 a4) = 0) => ?_) (fun (c8 : (f_X8_isCell a1 a3 a4) = 0) => ?_)
          · have h := h.1 c8
            refine qm_iconst E_X8_canChange 0 (by decide) dX8_canChange_43 ?_
            exact qm_iret E_X8_canChange rfl dX8_canChange_44 ⟨_, rfl, rfl, h⟩
          · have h := h.2 c8
            refine qm_iconst E_X8_canChange 2 (by decide) dX8_canChange_39 ?_
            refine qm_goto E_X8_canChange 44 dX8_canChange_40 (by decide) ?_
            exact qm_iret E_X8_canChange rfl dX8_canChange_44 ⟨_, rfl, rfl, h⟩
    · have h := h.2 c4
      refine qm_iconst E_X8_canChange 1 (by decide) dX8_canChange_18 ?_
      exact qm_iret E_X8_canChange rfl dX8_canChange_19 ⟨_, rfl, rfl, h⟩
def I_X8_puts : qh_I := (yX8_puts, cX8_puts, 7, (Option.some Jvm.ClassFile.FieldType.int), [])
theorem E_X8_puts : I_X8_puts.2.1 = cX8_puts := rfl
theorem M_X8_puts : qh_M I_X8_puts 4 := ⟨by decide, by decide, by decide +kernel, q95, q2009, by decide⟩
def T_X8_puts (a1 a2 a3 a4 : Int32) (S : qm_S) (K : Int32 → qm_S → Prop) : Prop := T_X8_placeOf a1 a2 S (fun r1 => vp_in ((4 * ((12 * a1) + r1)) + a3) (qm_len 3) ∧ T_X8_writes a1 ((S.1, qm_uA S.2 3 (upd (S.2 3) ((4 * ((12 * a1) + r1)) + a3).toNatClampNeg a4))) (fun S4 => K (S.2 3 ((4 * ((12 * a1) + r1)) + a3).toNatClampNeg) S4))
set_option maxHeartbeats 4000000 in
theorem C_X8_puts {M : qm_G} {d : Nat} (a1 a2 a3 a4 : Int32) (S : qm_S) (K : Int32 → qm_S → Prop) (h : T_X8_puts a1 a2 a3 a4 S K) : qm_C M (d + 3) I_X8_puts [.ref M.2.2.1, .int a1, .int a2, .int a3, .int a4] S (fun v S' => ∃ r, v = some (.int r) ∧ K r S') := by
  refine qm_C.of (by decide) rfl (ls := [some (.ref M.2.2.1), some (.int a1), some (.int a2), some (.int a3), some (.int a4), none, none]) rfl (Nat.le_of_ble_eq_true rfl) (qm_ct rfl) ?_
  unfold T_X8_puts at h
  refine qm_iconst E_X8_puts 4 (by decide) dX8_puts_0 ?_
  refine qm_bipush E_X8_puts 12 (by decide) dX8_puts_1 ?_
  refine qm_iload_n E_X8_puts (by rfl) dX8_puts_3 ?_
  refine qm_imul E_X8_puts dX8_puts_4 ?_
  refine qm_aload_n E_X8_puts (by rfl) dX8_puts_5 ?_
  refine qm_iload_n E_X8_puts (by rfl) dX8_puts_6 ?_
  refine qm_iload_n E_X8_puts (by rfl) dX8_puts_7 ?_
  refine qm_callV (As := [.int a1, .int a2]) (rest := [.int (12 * a1), .int 4]) E_X8_puts rfl M_X8_placeOf rfl q1970 q1972 qs34 rfl rfl rfl (Nat.le_of_ble_eq_true rfl) dX8_puts_8 (qm_C.mono ?_ (C_X8_placeOf (d := d + 2) a1 a2 S _ h))
  rintro _ _ ⟨r1, rfl, rfl, h⟩
  refine qm_iadd E_X8_puts dX8_puts_11 ?_
  refine qm_imul E_X8_puts dX8_puts_12 ?_
  refine qm_iload_n E_X8_puts (by rfl) dX8_puts_13 ?_
  refine qm_iadd E_X8_puts dX8_puts_14 ?_
  refine qm_istore E_X8_puts (by decide) dX8_puts_15 ?_
  refine qm_aload_n E_X8_puts (by rfl) dX8_puts_17 ?_
  refine qm_get E_X8_puts rfl 3 (by decide) q1660 (v := .ref (M.2.2.2 3)) rfl dX8_puts_18 ?_
  refine qm_iload E_X8_puts (by rfl) dX8_puts_21 ?_
  obtain ⟨o3, h⟩ := h
  refine qm_iald E_X8_puts 3 (by decide) rfl o3 dX8_puts_23 ?_
  refine qm_istore E_X8_puts (by decide) dX8_puts_24 ?_
  refine qm_aload_n E_X8_puts (by rfl) dX8_puts_26 ?_
  refine qm_get E_X8_puts rfl 3 (by decide) q1660 (v := .ref (M.2.2.2 3)) rfl dX8_puts_27 ?_
  refine qm_iload E_X8_puts (by rfl) dX8_puts_30 ?_
  refine qm_iload E_X8_puts (by rfl) dX8_puts_32 ?_
  refine qm_iast E_X8_puts 3 (by decide) rfl o3 dX8_puts_34 ?_
  refine qm_aload_n E_X8_puts (by rfl) dX8_puts_35 ?_
  refine qm_iload_n E_X8_puts (by rfl) dX8_puts_36 ?_
  refine qm_callV (As := [.int a1]) (rest := []) E_X8_puts rfl M_X8_writes rfl q1986 q1988 qs38 rfl rfl rfl (Nat.le_of_ble_eq_true rfl) dX8_puts_37 (qm_C.mono ?_ (C_X8_writes (d := d) a1 ((S.1, qm_uA S.2 3 (upd (S.2 3) ((4 * ((12 * a1) + r1)) + a3).toNatClampNeg a4))) _ h))
  rintro _ S4 ⟨rfl, h⟩
  refine qm_iload E_X8_puts (by rfl) dX8_puts_40 ?_
  exact qm_iret E_X8_puts rfl dX8_puts_42 ⟨_, rfl, h⟩
def I_X8_change : qh_I := (yX8_change, cX8_change, 5, (Option.some Jvm.ClassFile.FieldType.int), [])
theorem E_X8_change : I_X8_change.2.1 = cX8_change := rfl
theorem M_X8_change : qh_M I_X8_change 4 := ⟨by decide, by decide, by decide +kernel, q95, q2001, by decide⟩
def T_X8_change (a1 a2 a3 a4 : Int32) (S : qm_S) (K : Int32 → qm_S → Prop) : Prop := ∀ J4 : Int32 → Prop, (∀ (x5 : Int32), ((x5 ≤ 0 → T_X8_kept a1 a3 a4 ((upd S.1 0 x5, S.2)) (fun r7 S9 => T_X8_puts a1 a2 a3 r7 S9 (fun r10 S12 => K r10 S12))) ∧ (¬ x5 ≤ 0 → K 0 ((upd S.1 0 x5, S.2)))) → J4 x5) → (¬ (f_X8_isSource a1) = 0 → T_X8_canChange a1 a2 a3 a4 S (fun r2 => J4 r2)) ∧ ((f_X8_isSource a1) = 0 → J4 1)
set_option maxHeartbeats 4000000 in
theorem C_X8_change {M : qm_G} {d : Nat} (a1 a2 a3 a4 : Int32) (S : qm_S) (K : Int32 → qm_S → Prop) (h : T_X8_change a1 a2 a3 a4 S K) : qm_C M (d + 4) I_X8_change [.ref M.2.2.1, .int a1, .int a2, .int a3, .int a4] S (fun v S' => ∃ r, v = some (.int r) ∧ K r S') := by
  refine qm_C.of (by decide) rfl (ls := [some (.ref M.2.2.1), some (.int a1), some (.int a2), some (.int a3), some (.int a4)]) rfl (Nat.le_of_ble_eq_true rfl) (qm_ct rfl) ?_
  unfold T_X8_change at h
  refine qm_aload_n E_X8_change (by rfl) dX8_change_0 ?_
  refine qm_iload_n E_X8_change (by rfl) dX8_change_1 ?_
  refine qm_callS (As := [.int a1]) (rest := [.ref M.2.2.1]) E_X8_change rfl M_X8_isSource rfl q1948 q1949 rfl rfl (Nat.le_of_ble_eq_true rfl) dX8_change_2 (C_X8_isSource (d := d + 2) a1 S _ ?_)
  have h := h (fun x5 => qm_wp M (d + 4) I_X8_change 21 [some (.ref M.2.2.1), some (.int a1), some (.int a2), some (.int a3), some (.int a4)] [.int x5, .ref M.2.2.1] S (fun v S' => ∃ r, v = some (.int r) ∧ K r S')) (by
    intro x5 h
    refine qm_put E_X8_change rfl 0 (by decide) q1657 rfl rfl rfl (qm_set0) dX8_change_21 ?_
    refine qm_aload_n E_X8_change (by rfl) dX8_change_24 ?_
    refine qm_get E_X8_change rfl 0 (by decide) q1657 (v := .int x5) rfl dX8_change_25 ?_
    refine qm_if_le E_X8_change 35 dX8_change_28 (by decide) (fun (c6 : x5 ≤ 0) => ?_) (fun (c6 : ¬ x5 ≤ 0) => ?_)
    · have h := h.1 c6
      refine qm_aload_n E_X8_change (by rfl) dX8_change_35 ?_
      refine qm_iload_n E_X8_change (by rfl) dX8_change_36 ?_
      refine qm_iload_n E_X8_change (by rfl) dX8_change_37 ?_
      refine qm_iload_n E_X8_change (by rfl) dX8_change_38 ?_
      refine qm_aload_n E_X8_change (by rfl) dX8_change_39 ?_
      refine qm_iload_n E_X8_change (by rfl) dX8_change_40 ?_
      refine qm_iload_n E_X8_change (by rfl) dX8_change_41 ?_
      refine qm_iload E_X8_change (by rfl) dX8_change_42 ?_
      refine qm_callV (As := [.int a1, .int a3, .int a4]) (rest := [.int a3, .int a2, .int a1, .ref M.2.2.1]) E_X8_change rfl M_X8_kept rfl q1978 q1980 qs36 rfl rfl rfl (Nat.le_of_ble_eq_true rfl) dX8_change_44 (qm_C.mono ?_ (C_X8_kept (d := d + 1) a1 a3 a4 ((upd S.1 0 x5, S.2)) _ h))
      rintro _ S9 ⟨r7, rfl, h⟩
      refine qm_callV (As := [.int a1, .int a2, .int a3, .int r7]) (rest := []) E_X8_change rfl M_X8_puts rfl q2006 q2008 qs42 rfl rfl rfl (Nat.le_of_ble_eq_true rfl) dX8_change_47 (qm_C.mono ?_ (C_X8_puts (d := d) a1 a2 a3 r7 S9 _ h))
      rintro _ S12 ⟨r10, rfl, h⟩
      exact qm_iret E_X8_change rfl dX8_change_50 ⟨_, rfl, h⟩
    · have h := h.2 c6
      refine qm_iconst E_X8_change 0 (by decide) dX8_change_31 ?_
      refine qm_goto E_X8_change 50 dX8_change_32 (by decide) ?_
      exact qm_iret E_X8_change rfl dX8_change_50 ⟨_, rfl, h⟩)
  refine qm_if_ne E_X8_change 12 dX8_change_5 (by decide) (fun (c1 : ¬ (f_X8_isSource a1) = 0) => ?_) (fun (c1 : (f_X8_isSource a1) = 0) => ?_)
  · have h := h.1 c1
    refine qm_aload_n E_X8_change (by rfl) dX8_change_12 ?_
    refine qm_iload_n E_X8_change (by rfl) dX8_change_13 ?_
    refine qm_iload_n E_X8_change (by rfl) dX8_change_14 ?_
    refine qm_iload_n E_X8_change (by rfl) dX8_change_15 ?_
    refine qm_iload E_X8_change (by rfl) dX8_change_16 ?_
    refine qm_callV (As := [.int a1, .int a2, .int a3, .int a4]) (rest := [.ref M.2.2.1]) E_X8_change rfl M_X8_canChange rfl q2002 q2004 qs41 rfl rfl rfl (Nat.le_of_ble_eq_true rfl) dX8_change_18 (qm_C.mono ?_ (C_X8_canChange (d := d) a1 a2 a3 a4 S _ h))
    rintro _ _ ⟨r2, rfl, rfl, h⟩
    exact h
  · have h := h.2 c1
    refine qm_iconst E_X8_change 1 (by decide) dX8_change_8 ?_
    refine qm_goto E_X8_change 21 dX8_change_9 (by decide) ?_
    exact h
def I_X8_takesOut : qh_I := (yX8_takesOut, cX8_takesOut, 7, (Option.none : Option Jvm.ClassFile.FieldType), [])
theorem E_X8_takesOut : I_X8_takesOut.2.1 = cX8_takesOut := rfl
theorem M_X8_takesOut : qh_M I_X8_takesOut 2 := ⟨by decide, by decide, by decide +kernel, q95, q2017, by decide⟩
def T_X8_takesOut (a1 a2 : Int32) (S : qm_S) (K : qm_S → Prop) : Prop := T_X8_placeOf a1 a2 S (fun r1 => vp_in a1 (qm_len 1) ∧ ∀ X4 : Int32 → qm_S → Prop, (∀ (x5 : Int32) (S6 : qm_S), (((S6.2 1 a1.toNatClampNeg) ≤ x5 → T_X8_writes a1 S6 (fun S8 => K S8)) ∧ (¬ (S6.2 1 a1.toNatClampNeg) ≤ x5 → vp_in (((12 * a1) + x5) + 1) (qm_len 2) ∧ vp_in ((12 * a1) + x5) (qm_len 2) ∧ ∀ X11 : Int32 → qm_S → Prop, (∀ (x12 : Int32) (S13 : qm_S), ((4 ≤ x12 → X4 (x5 + 1) S13) ∧ (¬ 4 ≤ x12 → vp_in ((4 * (((12 * a1) + x5) + 1)) + x12) (qm_len 3) ∧ vp_in ((4 * ((12 * a1) + x5)) + x12) (qm_len 3) ∧ X11 (x12 + 1) ((S13.1, qm_uA S13.2 3 (upd (S13.2 3) ((4 * ((12 * a1) + x5)) + x12).toNatClampNeg (S13.2 3 ((4 * (((12 * a1) + x5) + 1)) + x12).toNatClampNeg)))))) → X11 x12 S13) → X11 0 ((S6.1, qm_uA S6.2 2 (upd (S6.2 2) ((12 * a1) + x5).toNatClampNeg (S6.2 2 (((12 * a1) + x5) + 1).toNatClampNeg)))))) → X4 x5 S6) → X4 r1 ((S.1, qm_uA S.2 1 (upd (S.2 1) a1.toNatClampNeg ((S.2 1 a1.toNatClampNeg) - 1)))))
set_option maxHeartbeats 4000000 in
theorem C_X8_takesOut {M : qm_G} {d : Nat} (a1 a2 : Int32) (S : qm_S) (K : qm_S → Prop) (h : T_X8_takesOut a1 a2 S K) : qm_C M (d + 3) I_X8_takesOut [.ref M.2.2.1, .int a1, .int a2] S (fun v S' => v = none ∧ K S') := by
  refine qm_C.of (by decide) rfl (ls := [some (.ref M.2.2.1), some (.int a1), some (.int a2), none, none, none, none]) rfl (Nat.le_of_ble_eq_true rfl) (qm_ct rfl) ?_
  unfold T_X8_takesOut at h
  refine qm_aload_n E_X8_takesOut (by rfl) dX8_takesOut_0 ?_
  refine qm_iload_n E_X8_takesOut (by rfl) dX8_takesOut_1 ?_
  refine qm_iload_n E_X8_takesOut (by rfl) dX8_takesOut_2 ?_
  refine qm_callV (As := [.int a1, .int a2]) (rest := []) E_X8_takesOut rfl M_X8_placeOf rfl q1970 q1972 qs34 rfl rfl rfl (Nat.le_of_ble_eq_true rfl) dX8_takesOut_3 (qm_C.mono ?_ (C_X8_placeOf (d := d + 2) a1 a2 S _ h))
  rintro _ _ ⟨r1, rfl, rfl, h⟩
  refine qm_istore_n E_X8_takesOut (by decide) dX8_takesOut_6 ?_
  refine qm_aload_n E_X8_takesOut (by rfl) dX8_takesOut_7 ?_
  refine qm_get E_X8_takesOut rfl 1 (by decide) q1658 (v := .ref (M.2.2.2 1)) rfl dX8_takesOut_8 ?_
  refine qm_iload_n E_X8_takesOut (by rfl) dX8_takesOut_11 ?_
  refine qm_dup2 E_X8_takesOut rfl rfl dX8_takesOut_12 ?_
  obtain ⟨o3, h⟩ := h
  refine qm_iald E_X8_takesOut 1 (by decide) rfl o3 dX8_takesOut_13 ?_
  refine qm_iconst E_X8_takesOut 1 (by decide) dX8_takesOut_14 ?_
  refine qm_isub E_X8_takesOut dX8_takesOut_15 ?_
  refine qm_iast E_X8_takesOut 1 (by decide) rfl o3 dX8_takesOut_16 ?_
  refine qm_iload_n E_X8_takesOut (by rfl) dX8_takesOut_17 ?_
  refine qm_istore E_X8_takesOut (by decide) dX8_takesOut_18 ?_
  refine h (fun x5 S6 => qm_wp M (d + 3) I_X8_takesOut 20 [some (.ref M.2.2.1), some (.int a1), some (.int a2), some (.int r1), some (.int x5), none, none] [] S6 (fun v S' => v = none ∧ K S')) ?_
  intro x5 S6 h
  refine qm_iload E_X8_takesOut (by rfl) dX8_takesOut_20 ?_
  refine qm_aload_n E_X8_takesOut (by rfl) dX8_takesOut_22 ?_
  refine qm_get E_X8_takesOut rfl 1 (by decide) q1658 (v := .ref (M.2.2.2 1)) rfl dX8_takesOut_23 ?_
  refine qm_iload_n E_X8_takesOut (by rfl) dX8_takesOut_26 ?_
  refine qm_iald E_X8_takesOut 1 (by decide) rfl o3 dX8_takesOut_27 ?_
  refine qm_icmp_ge E_X8_takesOut 103 dX8_takesOut_28 (by decide) (fun (c7 : (S6.2 1 a1.toNatClampNeg) ≤ x5) => ?_) (fun (c7 : ¬ (S6.2 1 a1.toNatClampNeg) ≤ x5) => ?_)
  · have h := h.1 c7
    refine qm_aload_n E_X8_takesOut (by rfl) dX8_takesOut_103 ?_
    refine qm_iload_n E_X8_takesOut (by rfl) dX8_takesOut_104 ?_
    refine qm_callV (As := [.int a1]) (rest := []) E_X8_takesOut rfl M_X8_writes rfl q1986 q1988 qs38 rfl rfl rfl (Nat.le_of_ble_eq_true rfl) dX8_takesOut_105 (qm_C.mono ?_ (C_X8_writes (d := d) a1 S6 _ h))
    rintro _ S8 ⟨rfl, h⟩
    exact qm_vret E_X8_takesOut rfl dX8_takesOut_108 ⟨rfl, h⟩
  · have h := h.2 c7
    refine qm_bipush E_X8_takesOut 12 (by decide) dX8_takesOut_31 ?_
    refine qm_iload_n E_X8_takesOut (by rfl) dX8_takesOut_33 ?_
    refine qm_imul E_X8_takesOut dX8_takesOut_34 ?_
    refine qm_iload E_X8_takesOut (by rfl) dX8_takesOut_35 ?_
    refine qm_iadd E_X8_takesOut dX8_takesOut_37 ?_
    refine qm_istore E_X8_takesOut (by decide) dX8_takesOut_38 ?_
    refine qm_aload_n E_X8_takesOut (by rfl) dX8_takesOut_40 ?_
    refine qm_get E_X8_takesOut rfl 2 (by decide) q1659 (v := .ref (M.2.2.2 2)) rfl dX8_takesOut_41 ?_
    refine qm_iload E_X8_takesOut (by rfl) dX8_takesOut_44 ?_
    refine qm_aload_n E_X8_takesOut (by rfl) dX8_takesOut_46 ?_
    refine qm_get E_X8_takesOut rfl 2 (by decide) q1659 (v := .ref (M.2.2.2 2)) rfl dX8_takesOut_47 ?_
    refine qm_iload E_X8_takesOut (by rfl) dX8_takesOut_50 ?_
    refine qm_iconst E_X8_takesOut 1 (by decide) dX8_takesOut_52 ?_
    refine qm_iadd E_X8_takesOut dX8_takesOut_53 ?_
    obtain ⟨o9, h⟩ := h
    refine qm_iald E_X8_takesOut 2 (by decide) rfl o9 dX8_takesOut_54 ?_
    obtain ⟨o10, h⟩ := h
    refine qm_iast E_X8_takesOut 2 (by decide) rfl o10 dX8_takesOut_55 ?_
    refine qm_iconst E_X8_takesOut 0 (by decide) dX8_takesOut_56 ?_
    refine qm_istore E_X8_takesOut (by decide) dX8_takesOut_57 ?_
    refine h (fun x12 S13 => qm_wp M (d + 3) I_X8_takesOut 59 [some (.ref M.2.2.1), some (.int a1), some (.int a2), some (.int r1), some (.int x5), some (.int ((12 * a1) + x5)), some (.int x12)] [] S13 (fun v S' => v = none ∧ K S')) ?_
    intro x12 S13 h
    refine qm_iload E_X8_takesOut (by rfl) dX8_takesOut_59 ?_
    refine qm_iconst E_X8_takesOut 4 (by decide) dX8_takesOut_61 ?_
    refine qm_icmp_ge E_X8_takesOut 97 dX8_takesOut_62 (by decide) (fun (c14 : 4 ≤ x12) => ?_) (fun (c14 : ¬ 4 ≤ x12) => ?_)
    · have h := h.1 c14
      refine qm_iinc E_X8_takesOut 1 rfl (by decide) (by decide) dX8_takesOut_97 ?_
      refine qm_goto E_X8_takesOut 20 dX8_takesOut_100 (by decide) ?_
      refine qm_drop 5 ?_
      refine qm_drop 6 ?_
      exact h
    · have h := h.2 c14
      refine qm_aload_n E_X8_takesOut (by rfl) dX8_takesOut_65 ?_
      refine qm_get E_X8_takesOut rfl 3 (by decide) q1660 (v := .ref (M.2.2.2 3)) rfl dX8_takesOut_66 ?_
      refine qm_iconst E_X8_takesOut 4 (by decide) dX8_takesOut_69 ?_
      refine qm_iload E_X8_takesOut (by rfl) dX8_takesOut_70 ?_
      refine qm_imul E_X8_takesOut dX8_takesOut_72 ?_
      refine qm_iload E_X8_takesOut (by rfl) dX8_takesOut_73 ?_
      refine qm_iadd E_X8_takesOut dX8_takesOut_75 ?_
      refine qm_aload_n E_X8_takesOut (by rfl) dX8_takesOut_76 ?_
      refine qm_get E_X8_takesOut rfl 3 (by decide) q1660 (v := .ref (M.2.2.2 3)) rfl dX8_takesOut_77 ?_
      refine qm_iconst E_X8_takesOut 4 (by decide) dX8_takesOut_80 ?_
      refine qm_iload E_X8_takesOut (by rfl) dX8_takesOut_81 ?_
      refine qm_iconst E_X8_takesOut 1 (by decide) dX8_takesOut_83 ?_
      refine qm_iadd E_X8_takesOut dX8_takesOut_84 ?_
      refine qm_imul E_X8_takesOut dX8_takesOut_85 ?_
      refine qm_iload E_X8_takesOut (by rfl) dX8_takesOut_86 ?_
      refine qm_iadd E_X8_takesOut dX8_takesOut_88 ?_
      obtain ⟨o15, h⟩ := h
      refine qm_iald E_X8_takesOut 3 (by decide) rfl o15 dX8_takesOut_89 ?_
      obtain ⟨o16, h⟩ := h
      refine qm_iast E_X8_takesOut 3 (by decide) rfl o16 dX8_takesOut_90 ?_
      refine qm_iinc E_X8_takesOut 1 rfl (by decide) (by decide) dX8_takesOut_91 ?_
      refine qm_goto E_X8_takesOut 59 dX8_takesOut_94 (by decide) ?_
      exact h
def I_X8_remove : qh_I := (yX8_remove, cX8_remove, 3, (Option.some Jvm.ClassFile.FieldType.int), [])
theorem E_X8_remove : I_X8_remove.2.1 = cX8_remove := rfl
theorem M_X8_remove : qh_M I_X8_remove 2 := ⟨by decide, by decide, by decide +kernel, q95, q2013, by decide⟩
def T_X8_remove (a1 a2 : Int32) (S : qm_S) (K : Int32 → qm_S → Prop) : Prop := ∀ J5 : Int32 → Prop, (∀ (x6 : Int32), ((x6 ≤ 0 → T_X8_takesOut a1 a2 ((upd S.1 0 x6, S.2)) (fun S8 => vp_in a1 (qm_len 1) ∧ K (S8.2 1 a1.toNatClampNeg) S8)) ∧ (¬ x6 ≤ 0 → K 0 ((upd S.1 0 x6, S.2)))) → J5 x6) → ((f_X8_isSource a1) = 0 → J5 1) ∧ (¬ (f_X8_isSource a1) = 0 → T_X8_placeOf a1 a2 S (fun r2 => (¬ r2 = ((-1)) → J5 0) ∧ (r2 = ((-1)) → J5 1)))
set_option maxHeartbeats 4000000 in
theorem C_X8_remove {M : qm_G} {d : Nat} (a1 a2 : Int32) (S : qm_S) (K : Int32 → qm_S → Prop) (h : T_X8_remove a1 a2 S K) : qm_C M (d + 4) I_X8_remove [.ref M.2.2.1, .int a1, .int a2] S (fun v S' => ∃ r, v = some (.int r) ∧ K r S') := by
  refine qm_C.of (by decide) rfl (ls := [some (.ref M.2.2.1), some (.int a1), some (.int a2)]) rfl (Nat.le_of_ble_eq_true rfl) (qm_ct rfl) ?_
  unfold T_X8_remove at h
  refine qm_aload_n E_X8_remove (by rfl) dX8_remove_0 ?_
  refine qm_iload_n E_X8_remove (by rfl) dX8_remove_1 ?_
  refine qm_callS (As := [.int a1]) (rest := [.ref M.2.2.1]) E_X8_remove rfl M_X8_isSource rfl q1948 q1949 rfl rfl (Nat.le_of_ble_eq_true rfl) dX8_remove_2 (C_X8_isSource (d := d + 2) a1 S _ ?_)
  have h := h (fun x6 => qm_wp M (d + 4) I_X8_remove 23 [some (.ref M.2.2.1), some (.int a1), some (.int a2)] [.int x6, .ref M.2.2.1] S (fun v S' => ∃ r, v = some (.int r) ∧ K r S')) (by
    intro x6 h
    refine qm_put E_X8_remove rfl 0 (by decide) q1657 rfl rfl rfl (qm_set0) dX8_remove_23 ?_
    refine qm_aload_n E_X8_remove (by rfl) dX8_remove_26 ?_
    refine qm_get E_X8_remove rfl 0 (by decide) q1657 (v := .int x6) rfl dX8_remove_27 ?_
    refine qm_if_le E_X8_remove 35 dX8_remove_30 (by decide) (fun (c7 : x6 ≤ 0) => ?_) (fun (c7 : ¬ x6 ≤ 0) => ?_)
    · have h := h.1 c7
      refine qm_aload_n E_X8_remove (by rfl) dX8_remove_35 ?_
      refine qm_iload_n E_X8_remove (by rfl) dX8_remove_36 ?_
      refine qm_iload_n E_X8_remove (by rfl) dX8_remove_37 ?_
      refine qm_callV (As := [.int a1, .int a2]) (rest := []) E_X8_remove rfl M_X8_takesOut rfl q2014 q2016 qs43 rfl rfl rfl (Nat.le_of_ble_eq_true rfl) dX8_remove_38 (qm_C.mono ?_ (C_X8_takesOut (d := d) a1 a2 ((upd S.1 0 x6, S.2)) _ h))
      rintro _ S8 ⟨rfl, h⟩
      refine qm_aload_n E_X8_remove (by rfl) dX8_remove_41 ?_
      refine qm_get E_X8_remove rfl 1 (by decide) q1658 (v := .ref (M.2.2.2 1)) rfl dX8_remove_42 ?_
      refine qm_iload_n E_X8_remove (by rfl) dX8_remove_45 ?_
      obtain ⟨o9, h⟩ := h
      refine qm_iald E_X8_remove 1 (by decide) rfl o9 dX8_remove_46 ?_
      exact qm_iret E_X8_remove rfl dX8_remove_47 ⟨_, rfl, h⟩
    · have h := h.2 c7
      refine qm_iconst E_X8_remove 0 (by decide) dX8_remove_33 ?_
      exact qm_iret E_X8_remove rfl dX8_remove_34 ⟨_, rfl, h⟩)
  refine qm_if_eq E_X8_remove 18 dX8_remove_5 (by decide) (fun (c1 : (f_X8_isSource a1) = 0) => ?_) (fun (c1 : ¬ (f_X8_isSource a1) = 0) => ?_)
  · have h := h.1 c1
    refine qm_iconst E_X8_remove 1 (by decide) dX8_remove_18 ?_
    refine qm_goto E_X8_remove 23 dX8_remove_19 (by decide) ?_
    exact h
  · have h := h.2 c1
    refine qm_aload_n E_X8_remove (by rfl) dX8_remove_8 ?_
    refine qm_iload_n E_X8_remove (by rfl) dX8_remove_9 ?_
    refine qm_iload_n E_X8_remove (by rfl) dX8_remove_10 ?_
    refine qm_callV (As := [.int a1, .int a2]) (rest := [.ref M.2.2.1]) E_X8_remove rfl M_X8_placeOf rfl q1970 q1972 qs34 rfl rfl rfl (Nat.le_of_ble_eq_true rfl) dX8_remove_11 (qm_C.mono ?_ (C_X8_placeOf (d := d + 3) a1 a2 S _ h))
    rintro _ _ ⟨r2, rfl, rfl, h⟩
    refine qm_iconst E_X8_remove (-1) (by decide) dX8_remove_14 ?_
    refine qm_icmp_ne E_X8_remove 22 dX8_remove_15 (by decide) (fun (c4 : ¬ r2 = ((-1))) => ?_) (fun (c4 : r2 = ((-1))) => ?_)
    · have h := h.1 c4
      refine qm_iconst E_X8_remove 0 (by decide) dX8_remove_22 ?_
      exact h
    · have h := h.2 c4
      refine qm_iconst E_X8_remove 1 (by decide) dX8_remove_18 ?_
      refine qm_goto E_X8_remove 23 dX8_remove_19 (by decide) ?_
      exact h
def I_X8_count : qh_I := (yX8_count, cX8_count, 2, (Option.some Jvm.ClassFile.FieldType.int), [])
theorem E_X8_count : I_X8_count.2.1 = cX8_count := rfl
theorem M_X8_count : qh_M I_X8_count 1 := ⟨by decide, by decide, by decide +kernel, q95, q2021, by decide⟩
def T_X8_count (a1 : Int32) (S : qm_S) (K : Int32 → qm_S → Prop) : Prop := (((if (f_X8_isSource a1) = 0 then (1 : Int32) else (0 : Int32))) ≤ 0 → vp_in a1 (qm_len 1) ∧ K (S.2 1 a1.toNatClampNeg) ((upd S.1 0 ((if (f_X8_isSource a1) = 0 then (1 : Int32) else (0 : Int32))), S.2))) ∧ (¬ ((if (f_X8_isSource a1) = 0 then (1 : Int32) else (0 : Int32))) ≤ 0 → K 0 ((upd S.1 0 ((if (f_X8_isSource a1) = 0 then (1 : Int32) else (0 : Int32))), S.2)))
set_option maxHeartbeats 4000000 in
theorem C_X8_count {M : qm_G} {d : Nat} (a1 : Int32) (S : qm_S) (K : Int32 → qm_S → Prop) (h : T_X8_count a1 S K) : qm_C M (d + 2) I_X8_count [.ref M.2.2.1, .int a1] S (fun v S' => ∃ r, v = some (.int r) ∧ K r S') := by
  refine qm_C.of (by decide) rfl (ls := [some (.ref M.2.2.1), some (.int a1)]) rfl (Nat.le_of_ble_eq_true rfl) (qm_ct rfl) ?_
  unfold T_X8_count at h
  refine qm_aload_n E_X8_count (by rfl) dX8_count_0 ?_
  refine qm_iload_n E_X8_count (by rfl) dX8_count_1 ?_
  refine qm_callS (As := [.int a1]) (rest := [.ref M.2.2.1]) E_X8_count rfl M_X8_isSource rfl q1948 q1949 rfl rfl (Nat.le_of_ble_eq_true rfl) dX8_count_2 (C_X8_isSource (d := d) a1 S _ ?_)
  have Jv2 : ∀ v2 : Int32, v2 = (if (f_X8_isSource a1) = 0 then (1 : Int32) else (0 : Int32)) → qm_wp M (d + 2) I_X8_count 13 [some (.ref M.2.2.1), some (.int a1)] [.int v2, .ref M.2.2.1] S (fun v S' => ∃ r, v = some (.int r) ∧ K r S') := by
    rintro _ rfl
    refine qm_put E_X8_count rfl 0 (by decide) q1657 rfl rfl rfl (qm_set0) dX8_count_13 ?_
    refine qm_aload_n E_X8_count (by rfl) dX8_count_16 ?_
    refine qm_get E_X8_count rfl 0 (by decide) q1657 (v := .int ((if (f_X8_isSource a1) = 0 then (1 : Int32) else (0 : Int32)))) rfl dX8_count_17 ?_
    refine qm_if_le E_X8_count 27 dX8_count_20 (by decide) (fun (c3 : ((if (f_X8_isSource a1) = 0 then (1 : Int32) else (0 : Int32))) ≤ 0) => ?_) (fun (c3 : ¬ ((if (f_X8_isSource a1) = 0 then (1 : Int32) else (0 : Int32))) ≤ 0) => ?_)
    · have h := h.1 c3
      refine qm_aload_n E_X8_count (by rfl) dX8_count_27 ?_
      refine qm_get E_X8_count rfl 1 (by decide) q1658 (v := .ref (M.2.2.2 1)) rfl dX8_count_28 ?_
      refine qm_iload_n E_X8_count (by rfl) dX8_count_31 ?_
      obtain ⟨o4, h⟩ := h
      refine qm_iald E_X8_count 1 (by decide) rfl o4 dX8_count_32 ?_
      exact qm_iret E_X8_count rfl dX8_count_33 ⟨_, rfl, h⟩
    · have h := h.2 c3
      refine qm_iconst E_X8_count 0 (by decide) dX8_count_23 ?_
      refine qm_goto E_X8_count 33 dX8_count_24 (by decide) ?_
      exact qm_iret E_X8_count rfl dX8_count_33 ⟨_, rfl, h⟩
  refine qm_if_eq E_X8_count 12 dX8_count_5 (by decide) (fun (c1 : (f_X8_isSource a1) = 0) => ?_) (fun (c1 : ¬ (f_X8_isSource a1) = 0) => ?_)
  · refine qm_iconst E_X8_count 1 (by decide) dX8_count_12 ?_
    exact Jv2 ((1 : Int32)) (by rw [if_pos c1])
  · refine qm_iconst E_X8_count 0 (by decide) dX8_count_8 ?_
    refine qm_goto E_X8_count 13 dX8_count_9 (by decide) ?_
    exact Jv2 ((0 : Int32)) (by rw [if_neg c1])
def I_X8_cell : qh_I := (yX8_cell, cX8_cell, 4, (Option.some Jvm.ClassFile.FieldType.int), [])
theorem E_X8_cell : I_X8_cell.2.1 = cX8_cell := rfl
theorem M_X8_cell : qh_M I_X8_cell 3 := ⟨by decide, by decide, by decide +kernel, q95, q2025, by decide⟩
def T_X8_cell (a1 a2 a3 : Int32) (S : qm_S) (K : Int32 → qm_S → Prop) : Prop := ∀ J6 : Int32 → Prop, (∀ (x7 : Int32), ((x7 ≤ 0 → T_X8_placeOf a1 a2 ((upd S.1 0 x7, S.2)) (fun r9 => vp_in ((4 * ((12 * a1) + r9)) + a3) (qm_len 3) ∧ K (S.2 3 ((4 * ((12 * a1) + r9)) + a3).toNatClampNeg) ((upd S.1 0 x7, S.2)))) ∧ (¬ x7 ≤ 0 → K 0 ((upd S.1 0 x7, S.2)))) → J6 x7) → ((f_X8_isSource a1) = 0 → J6 1) ∧ (¬ (f_X8_isSource a1) = 0 → T_X8_placeOf a1 a2 S (fun r2 => (r2 = ((-1)) → J6 1) ∧ (¬ r2 = ((-1)) → (¬ (f_X8_isColumn a1 a3) = 0 → J6 0) ∧ ((f_X8_isColumn a1 a3) = 0 → J6 1))))
set_option maxHeartbeats 4000000 in
theorem C_X8_cell {M : qm_G} {d : Nat} (a1 a2 a3 : Int32) (S : qm_S) (K : Int32 → qm_S → Prop) (h : T_X8_cell a1 a2 a3 S K) : qm_C M (d + 2) I_X8_cell [.ref M.2.2.1, .int a1, .int a2, .int a3] S (fun v S' => ∃ r, v = some (.int r) ∧ K r S') := by
  refine qm_C.of (by decide) rfl (ls := [some (.ref M.2.2.1), some (.int a1), some (.int a2), some (.int a3)]) rfl (Nat.le_of_ble_eq_true rfl) (qm_ct rfl) ?_
  unfold T_X8_cell at h
  refine qm_aload_n E_X8_cell (by rfl) dX8_cell_0 ?_
  refine qm_iload_n E_X8_cell (by rfl) dX8_cell_1 ?_
  refine qm_callS (As := [.int a1]) (rest := [.ref M.2.2.1]) E_X8_cell rfl M_X8_isSource rfl q1948 q1949 rfl rfl (Nat.le_of_ble_eq_true rfl) dX8_cell_2 (C_X8_isSource (d := d) a1 S _ ?_)
  have h := h (fun x7 => qm_wp M (d + 2) I_X8_cell 31 [some (.ref M.2.2.1), some (.int a1), some (.int a2), some (.int a3)] [.int x7, .ref M.2.2.1] S (fun v S' => ∃ r, v = some (.int r) ∧ K r S')) (by
    intro x7 h
    refine qm_put E_X8_cell rfl 0 (by decide) q1657 rfl rfl rfl (qm_set0) dX8_cell_31 ?_
    refine qm_aload_n E_X8_cell (by rfl) dX8_cell_34 ?_
    refine qm_get E_X8_cell rfl 0 (by decide) q1657 (v := .int x7) rfl dX8_cell_35 ?_
    refine qm_if_le E_X8_cell 45 dX8_cell_38 (by decide) (fun (c8 : x7 ≤ 0) => ?_) (fun (c8 : ¬ x7 ≤ 0) => ?_)
    · have h := h.1 c8
      refine qm_aload_n E_X8_cell (by rfl) dX8_cell_45 ?_
      refine qm_get E_X8_cell rfl 3 (by decide) q1660 (v := .ref (M.2.2.2 3)) rfl dX8_cell_46 ?_
      refine qm_iconst E_X8_cell 4 (by decide) dX8_cell_49 ?_
      refine qm_bipush E_X8_cell 12 (by decide) dX8_cell_50 ?_
      refine qm_iload_n E_X8_cell (by rfl) dX8_cell_52 ?_
      refine qm_imul E_X8_cell dX8_cell_53 ?_
      refine qm_aload_n E_X8_cell (by rfl) dX8_cell_54 ?_
      refine qm_iload_n E_X8_cell (by rfl) dX8_cell_55 ?_
      refine qm_iload_n E_X8_cell (by rfl) dX8_cell_56 ?_
      refine qm_callV (As := [.int a1, .int a2]) (rest := [.int (12 * a1), .int 4, .ref (M.2.2.2 3)]) E_X8_cell rfl M_X8_placeOf rfl q1970 q1972 qs34 rfl rfl rfl (Nat.le_of_ble_eq_true rfl) dX8_cell_57 (qm_C.mono ?_ (C_X8_placeOf (d := d + 1) a1 a2 ((upd S.1 0 x7, S.2)) _ h))
      rintro _ _ ⟨r9, rfl, rfl, h⟩
      refine qm_iadd E_X8_cell dX8_cell_60 ?_
      refine qm_imul E_X8_cell dX8_cell_61 ?_
      refine qm_iload_n E_X8_cell (by rfl) dX8_cell_62 ?_
      refine qm_iadd E_X8_cell dX8_cell_63 ?_
      obtain ⟨o11, h⟩ := h
      refine qm_iald E_X8_cell 3 (by decide) rfl o11 dX8_cell_64 ?_
      exact qm_iret E_X8_cell rfl dX8_cell_65 ⟨_, rfl, h⟩
    · have h := h.2 c8
      refine qm_iconst E_X8_cell 0 (by decide) dX8_cell_41 ?_
      refine qm_goto E_X8_cell 65 dX8_cell_42 (by decide) ?_
      exact qm_iret E_X8_cell rfl dX8_cell_65 ⟨_, rfl, h⟩)
  refine qm_if_eq E_X8_cell 26 dX8_cell_5 (by decide) (fun (c1 : (f_X8_isSource a1) = 0) => ?_) (fun (c1 : ¬ (f_X8_isSource a1) = 0) => ?_)
  · have h := h.1 c1
    refine qm_iconst E_X8_cell 1 (by decide) dX8_cell_26 ?_
    refine qm_goto E_X8_cell 31 dX8_cell_27 (by decide) ?_
    exact h
  · have h := h.2 c1
    refine qm_aload_n E_X8_cell (by rfl) dX8_cell_8 ?_
    refine qm_iload_n E_X8_cell (by rfl) dX8_cell_9 ?_
    refine qm_iload_n E_X8_cell (by rfl) dX8_cell_10 ?_
    refine qm_callV (As := [.int a1, .int a2]) (rest := [.ref M.2.2.1]) E_X8_cell rfl M_X8_placeOf rfl q1970 q1972 qs34 rfl rfl rfl (Nat.le_of_ble_eq_true rfl) dX8_cell_11 (qm_C.mono ?_ (C_X8_placeOf (d := d + 1) a1 a2 S _ h))
    rintro _ _ ⟨r2, rfl, rfl, h⟩
    refine qm_iconst E_X8_cell (-1) (by decide) dX8_cell_14 ?_
    refine qm_icmp_eq E_X8_cell 26 dX8_cell_15 (by decide) (fun (c4 : r2 = ((-1))) => ?_) (fun (c4 : ¬ r2 = ((-1))) => ?_)
    · have h := h.1 c4
      refine qm_iconst E_X8_cell 1 (by decide) dX8_cell_26 ?_
      refine qm_goto E_X8_cell 31 dX8_cell_27 (by decide) ?_
      exact h
    · have h := h.2 c4
      refine qm_iload_n E_X8_cell (by rfl) dX8_cell_18 ?_
      refine qm_iload_n E_X8_cell (by rfl) dX8_cell_19 ?_
      refine qm_callS (As := [.int a1, .int a3]) (rest := [.ref M.2.2.1]) E_X8_cell rfl M_X8_isColumn rfl q1961 q1962 rfl rfl (Nat.le_of_ble_eq_true rfl) dX8_cell_20 (C_X8_isColumn (d := d) a1 a3 S _ ?_)
      refine qm_if_ne E_X8_cell 30 dX8_cell_23 (by decide) (fun (c5 : ¬ (f_X8_isColumn a1 a3) = 0) => ?_) (fun (c5 : (f_X8_isColumn a1 a3) = 0) => ?_)
      · have h := h.1 c5
        refine qm_iconst E_X8_cell 0 (by decide) dX8_cell_30 ?_
        exact h
      · have h := h.2 c5
        refine qm_iconst E_X8_cell 1 (by decide) dX8_cell_26 ?_
        refine qm_goto E_X8_cell 31 dX8_cell_27 (by decide) ?_
        exact h
def I_X8_losses : qh_I := (yX8_losses, cX8_losses, 1, (Option.some Jvm.ClassFile.FieldType.int), [])
theorem E_X8_losses : I_X8_losses.2.1 = cX8_losses := rfl
theorem M_X8_losses : qh_M I_X8_losses 0 := ⟨by decide, by decide, by decide +kernel, q95, q2029, by decide⟩
def T_X8_losses (S : qm_S) (K : Int32 → qm_S → Prop) : Prop := K (S.1 6) ((upd S.1 0 0, S.2))
set_option maxHeartbeats 4000000 in
theorem C_X8_losses {M : qm_G} {d : Nat} (S : qm_S) (K : Int32 → qm_S → Prop) (h : T_X8_losses  S K) : qm_C M (d + 0) I_X8_losses [.ref M.2.2.1] S (fun v S' => ∃ r, v = some (.int r) ∧ K r S') := by
  refine qm_C.of (by decide) rfl (ls := [some (.ref M.2.2.1)]) rfl (Nat.le_of_ble_eq_true rfl) (qm_ct rfl) ?_
  unfold T_X8_losses at h
  refine qm_aload_n E_X8_losses (by rfl) dX8_losses_0 ?_
  refine qm_iconst E_X8_losses 0 (by decide) dX8_losses_1 ?_
  refine qm_put E_X8_losses rfl 0 (by decide) q1657 rfl rfl rfl (qm_set0) dX8_losses_2 ?_
  refine qm_aload_n E_X8_losses (by rfl) dX8_losses_5 ?_
  refine qm_get E_X8_losses rfl 6 (by decide) q1663 (v := .int (S.1 6)) rfl dX8_losses_6 ?_
  exact qm_iret E_X8_losses rfl dX8_losses_9 ⟨_, rfl, h⟩
def I_X8_moment : qh_I := (yX8_moment, cX8_moment, 1, (Option.some Jvm.ClassFile.FieldType.int), [])
theorem E_X8_moment : I_X8_moment.2.1 = cX8_moment := rfl
theorem M_X8_moment : qh_M I_X8_moment 0 := ⟨by decide, by decide, by decide +kernel, q95, q2033, by decide⟩
def T_X8_moment (S : qm_S) (K : Int32 → qm_S → Prop) : Prop := K (S.1 7) ((upd S.1 0 0, S.2))
set_option maxHeartbeats 4000000 in
theorem C_X8_moment {M : qm_G} {d : Nat} (S : qm_S) (K : Int32 → qm_S → Prop) (h : T_X8_moment  S K) : qm_C M (d + 0) I_X8_moment [.ref M.2.2.1] S (fun v S' => ∃ r, v = some (.int r) ∧ K r S') := by
  refine qm_C.of (by decide) rfl (ls := [some (.ref M.2.2.1)]) rfl (Nat.le_of_ble_eq_true rfl) (qm_ct rfl) ?_
  unfold T_X8_moment at h
  refine qm_aload_n E_X8_moment (by rfl) dX8_moment_0 ?_
  refine qm_iconst E_X8_moment 0 (by decide) dX8_moment_1 ?_
  refine qm_put E_X8_moment rfl 0 (by decide) q1657 rfl rfl rfl (qm_set0) dX8_moment_2 ?_
  refine qm_aload_n E_X8_moment (by rfl) dX8_moment_5 ?_
  refine qm_get E_X8_moment rfl 7 (by decide) q1664 (v := .int (S.1 7)) rfl dX8_moment_6 ?_
  exact qm_iret E_X8_moment rfl dX8_moment_9 ⟨_, rfl, h⟩
def I_X8_isStore : qh_I := (yX8_isStore, cX8_isStore, 1, (Option.some Jvm.ClassFile.FieldType.boolean), [])
theorem E_X8_isStore : I_X8_isStore.2.1 = cX8_isStore := rfl
theorem M_X8_isStore : qh_M I_X8_isStore 1 := ⟨by decide, by decide, by decide +kernel, q95, q2040, by decide⟩
def f_X8_isStore (a1 : Int32) : Int32 := f_X8_in a1 0 2
theorem z_X8_isStore (a1 : Int32) : (f_X8_isStore a1) = 0 ∨ (f_X8_isStore a1) = 1 := (z_X8_in a1 0 2)
set_option maxHeartbeats 4000000 in
theorem C_X8_isStore {M : qm_G} {d : Nat} (a1 : Int32) (S : qm_S) (Q : Option Value → qm_S → Prop) (hq : Q (some (.int (f_X8_isStore a1))) S) : qm_C M (d + 1) I_X8_isStore [.int a1] S Q := by
  refine qm_C.of (by decide) rfl (ls := [some (.int a1)]) rfl (Nat.le_of_ble_eq_true rfl) (qm_ct rfl) ?_
  unfold f_X8_isStore at hq
  refine qm_iload_n E_X8_isStore (by rfl) dX8_isStore_0 ?_
  refine qm_iconst E_X8_isStore 0 (by decide) dX8_isStore_1 ?_
  refine qm_iconst E_X8_isStore 2 (by decide) dX8_isStore_2 ?_
  refine qm_callS (As := [.int a1, .int 0, .int 2]) (rest := []) E_X8_isStore rfl M_X8_in rfl q1951 q1952 rfl rfl (Nat.le_of_ble_eq_true rfl) dX8_isStore_3 (C_X8_in (d := d) a1 0 2 S _ ?_)
  exact qm_zret E_X8_isStore rfl (qm_nb (z_X8_in a1 0 2)) dX8_isStore_6 hq
def I_X8_setPace : qh_I := (yX8_setPace, cX8_setPace, 5, (Option.some Jvm.ClassFile.FieldType.int), [])
theorem E_X8_setPace : I_X8_setPace.2.1 = cX8_setPace := rfl
theorem M_X8_setPace : qh_M I_X8_setPace 3 := ⟨by decide, by decide, by decide +kernel, q95, q2037, by decide⟩
def T_X8_setPace (a1 a2 a3 : Int32) (S : qm_S) (K : Int32 → qm_S → Prop) : Prop := (((if (f_X8_isStore a1) = 0 then (1 : Int32) else if (f_X8_in a2 0 30) = 0 then (2 : Int32) else if (f_X8_in a3 0 60) = 0 then (2 : Int32) else (0 : Int32))) ≤ 0 → vp_in a1 (qm_len 9) ∧ vp_in a1 (qm_len 10) ∧ K (S.2 9 a1.toNatClampNeg) ((upd S.1 0 ((if (f_X8_isStore a1) = 0 then (1 : Int32) else if (f_X8_in a2 0 30) = 0 then (2 : Int32) else if (f_X8_in a3 0 60) = 0 then (2 : Int32) else (0 : Int32))), qm_uA (qm_uA S.2 9 (upd (S.2 9) a1.toNatClampNeg a2)) 10 (upd (S.2 10) a1.toNatClampNeg a3)))) ∧ (¬ ((if (f_X8_isStore a1) = 0 then (1 : Int32) else if (f_X8_in a2 0 30) = 0 then (2 : Int32) else if (f_X8_in a3 0 60) = 0 then (2 : Int32) else (0 : Int32))) ≤ 0 → K 0 ((upd S.1 0 ((if (f_X8_isStore a1) = 0 then (1 : Int32) else if (f_X8_in a2 0 30) = 0 then (2 : Int32) else if (f_X8_in a3 0 60) = 0 then (2 : Int32) else (0 : Int32))), S.2)))
set_option maxHeartbeats 4000000 in
theorem C_X8_setPace {M : qm_G} {d : Nat} (a1 a2 a3 : Int32) (S : qm_S) (K : Int32 → qm_S → Prop) (h : T_X8_setPace a1 a2 a3 S K) : qm_C M (d + 2) I_X8_setPace [.ref M.2.2.1, .int a1, .int a2, .int a3] S (fun v S' => ∃ r, v = some (.int r) ∧ K r S') := by
  refine qm_C.of (by decide) rfl (ls := [some (.ref M.2.2.1), some (.int a1), some (.int a2), some (.int a3), none]) rfl (Nat.le_of_ble_eq_true rfl) (qm_ct rfl) ?_
  unfold T_X8_setPace at h
  refine qm_aload_n E_X8_setPace (by rfl) dX8_setPace_0 ?_
  refine qm_iload_n E_X8_setPace (by rfl) dX8_setPace_1 ?_
  refine qm_callS (As := [.int a1]) (rest := [.ref M.2.2.1]) E_X8_setPace rfl M_X8_isStore rfl q2038 q2039 rfl rfl (Nat.le_of_ble_eq_true rfl) dX8_setPace_2 (C_X8_isStore (d := d) a1 S _ ?_)
  have Jv4 : ∀ v4 : Int32, v4 = (if (f_X8_isStore a1) = 0 then (1 : Int32) else if (f_X8_in a2 0 30) = 0 then (2 : Int32) else if (f_X8_in a3 0 60) = 0 then (2 : Int32) else (0 : Int32)) → qm_wp M (d + 2) I_X8_setPace 37 [some (.ref M.2.2.1), some (.int a1), some (.int a2), some (.int a3), none] [.int v4, .ref M.2.2.1] S (fun v S' => ∃ r, v = some (.int r) ∧ K r S') := by
    rintro _ rfl
    refine qm_put E_X8_setPace rfl 0 (by decide) q1657 rfl rfl rfl (qm_set0) dX8_setPace_37 ?_
    refine qm_aload_n E_X8_setPace (by rfl) dX8_setPace_40 ?_
    refine qm_get E_X8_setPace rfl 0 (by decide) q1657 (v := .int ((if (f_X8_isStore a1) = 0 then (1 : Int32) else if (f_X8_in a2 0 30) = 0 then (2 : Int32) else if (f_X8_in a3 0 60) = 0 then (2 : Int32) else (0 : Int32)))) rfl dX8_setPace_41 ?_
    refine qm_if_le E_X8_setPace 49 dX8_setPace_44 (by decide) (fun (c5 : ((if (f_X8_isStore a1) = 0 then (1 : Int32) else if (f_X8_in a2 0 30) = 0 then (2 : Int32) else if (f_X8_in a3 0 60) = 0 then (2 : Int32) else (0 : Int32))) ≤ 0) => ?_) (fun (c5 : ¬ ((if (f_X8_isStore a1) = 0 then (1 : Int32) else if (f_X8_in a2 0 30) = 0 then (2 : Int32) else if (f_X8_in a3 0 60) = 0 then (2 : Int32) else (0 : Int32))) ≤ 0) => ?_)
    · have h := h.1 c5
      refine qm_aload_n E_X8_setPace (by rfl) dX8_setPace_49 ?_
      refine qm_get E_X8_setPace rfl 9 (by decide) q1666 (v := .ref (M.2.2.2 9)) rfl dX8_setPace_50 ?_
      refine qm_iload_n E_X8_setPace (by rfl) dX8_setPace_53 ?_
      obtain ⟨o6, h⟩ := h
      refine qm_iald E_X8_setPace 9 (by decide) rfl o6 dX8_setPace_54 ?_
      refine qm_istore E_X8_setPace (by decide) dX8_setPace_55 ?_
      refine qm_aload_n E_X8_setPace (by rfl) dX8_setPace_57 ?_
      refine qm_get E_X8_setPace rfl 9 (by decide) q1666 (v := .ref (M.2.2.2 9)) rfl dX8_setPace_58 ?_
      refine qm_iload_n E_X8_setPace (by rfl) dX8_setPace_61 ?_
      refine qm_iload_n E_X8_setPace (by rfl) dX8_setPace_62 ?_
      refine qm_iast E_X8_setPace 9 (by decide) rfl o6 dX8_setPace_63 ?_
      refine qm_aload_n E_X8_setPace (by rfl) dX8_setPace_64 ?_
      refine qm_get E_X8_setPace rfl 10 (by decide) q1667 (v := .ref (M.2.2.2 10)) rfl dX8_setPace_65 ?_
      refine qm_iload_n E_X8_setPace (by rfl) dX8_setPace_68 ?_
      refine qm_iload_n E_X8_setPace (by rfl) dX8_setPace_69 ?_
      obtain ⟨o7, h⟩ := h
      refine qm_iast E_X8_setPace 10 (by decide) rfl o7 dX8_setPace_70 ?_
      refine qm_iload E_X8_setPace (by rfl) dX8_setPace_71 ?_
      exact qm_iret E_X8_setPace rfl dX8_setPace_73 ⟨_, rfl, h⟩
    · have h := h.2 c5
      refine qm_iconst E_X8_setPace 0 (by decide) dX8_setPace_47 ?_
      exact qm_iret E_X8_setPace rfl dX8_setPace_48 ⟨_, rfl, h⟩
  refine qm_if_ne E_X8_setPace 12 dX8_setPace_5 (by decide) (fun (c1 : ¬ (f_X8_isStore a1) = 0) => ?_) (fun (c1 : (f_X8_isStore a1) = 0) => ?_)
  · refine qm_iload_n E_X8_setPace (by rfl) dX8_setPace_12 ?_
    refine qm_iconst E_X8_setPace 0 (by decide) dX8_setPace_13 ?_
    refine qm_bipush E_X8_setPace 30 (by decide) dX8_setPace_14 ?_
    refine qm_callS (As := [.int a2, .int 0, .int 30]) (rest := [.ref M.2.2.1]) E_X8_setPace rfl M_X8_in rfl q1951 q1952 rfl rfl (Nat.le_of_ble_eq_true rfl) dX8_setPace_16 (C_X8_in (d := d + 1) a2 0 30 S _ ?_)
    refine qm_if_eq E_X8_setPace 36 dX8_setPace_19 (by decide) (fun (c2 : (f_X8_in a2 0 30) = 0) => ?_) (fun (c2 : ¬ (f_X8_in a2 0 30) = 0) => ?_)
    · refine qm_iconst E_X8_setPace 2 (by decide) dX8_setPace_36 ?_
      exact Jv4 ((2 : Int32)) (by rw [if_neg c1, if_pos c2])
    · refine qm_iload_n E_X8_setPace (by rfl) dX8_setPace_22 ?_
      refine qm_iconst E_X8_setPace 0 (by decide) dX8_setPace_23 ?_
      refine qm_bipush E_X8_setPace 60 (by decide) dX8_setPace_24 ?_
      refine qm_callS (As := [.int a3, .int 0, .int 60]) (rest := [.ref M.2.2.1]) E_X8_setPace rfl M_X8_in rfl q1951 q1952 rfl rfl (Nat.le_of_ble_eq_true rfl) dX8_setPace_26 (C_X8_in (d := d + 1) a3 0 60 S _ ?_)
      refine qm_if_eq E_X8_setPace 36 dX8_setPace_29 (by decide) (fun (c3 : (f_X8_in a3 0 60) = 0) => ?_) (fun (c3 : ¬ (f_X8_in a3 0 60) = 0) => ?_)
      · refine qm_iconst E_X8_setPace 2 (by decide) dX8_setPace_36 ?_
        exact Jv4 ((2 : Int32)) (by rw [if_neg c1, if_neg c2, if_pos c3])
      · refine qm_iconst E_X8_setPace 0 (by decide) dX8_setPace_32 ?_
        refine qm_goto E_X8_setPace 37 dX8_setPace_33 (by decide) ?_
        exact Jv4 ((0 : Int32)) (by rw [if_neg c1, if_neg c2, if_neg c3])
  · refine qm_iconst E_X8_setPace 1 (by decide) dX8_setPace_8 ?_
    refine qm_goto E_X8_setPace 37 dX8_setPace_9 (by decide) ?_
    exact Jv4 ((1 : Int32)) (by rw [if_pos c1])
def I_X8_setBounds : qh_I := (yX8_setBounds, cX8_setBounds, 5, (Option.some Jvm.ClassFile.FieldType.int), [])
theorem E_X8_setBounds : I_X8_setBounds.2.1 = cX8_setBounds := rfl
theorem M_X8_setBounds : qh_M I_X8_setBounds 3 := ⟨by decide, by decide, by decide +kernel, q95, q2044, by decide⟩
def T_X8_setBounds (a1 a2 a3 : Int32) (S : qm_S) (K : Int32 → qm_S → Prop) : Prop := (((if (f_X8_isStore a1) = 0 then (1 : Int32) else if (f_X8_in a2 1 20) = 0 then (2 : Int32) else if (f_X8_in a3 0 12) = 0 then (2 : Int32) else (0 : Int32))) ≤ 0 → vp_in a1 (qm_len 11) ∧ vp_in a1 (qm_len 12) ∧ K (S.2 11 a1.toNatClampNeg) ((upd S.1 0 ((if (f_X8_isStore a1) = 0 then (1 : Int32) else if (f_X8_in a2 1 20) = 0 then (2 : Int32) else if (f_X8_in a3 0 12) = 0 then (2 : Int32) else (0 : Int32))), qm_uA (qm_uA S.2 11 (upd (S.2 11) a1.toNatClampNeg a2)) 12 (upd (S.2 12) a1.toNatClampNeg a3)))) ∧ (¬ ((if (f_X8_isStore a1) = 0 then (1 : Int32) else if (f_X8_in a2 1 20) = 0 then (2 : Int32) else if (f_X8_in a3 0 12) = 0 then (2 : Int32) else (0 : Int32))) ≤ 0 → K 0 ((upd S.1 0 ((if (f_X8_isStore a1) = 0 then (1 : Int32) else if (f_X8_in a2 1 20) = 0 then (2 : Int32) else if (f_X8_in a3 0 12) = 0 then (2 : Int32) else (0 : Int32))), S.2)))
set_option maxHeartbeats 4000000 in
theorem C_X8_setBounds {M : qm_G} {d : Nat} (a1 a2 a3 : Int32) (S : qm_S) (K : Int32 → qm_S → Prop) (h : T_X8_setBounds a1 a2 a3 S K) : qm_C M (d + 2) I_X8_setBounds [.ref M.2.2.1, .int a1, .int a2, .int a3] S (fun v S' => ∃ r, v = some (.int r) ∧ K r S') := by
  refine qm_C.of (by decide) rfl (ls := [some (.ref M.2.2.1), some (.int a1), some (.int a2), some (.int a3), none]) rfl (Nat.le_of_ble_eq_true rfl) (qm_ct rfl) ?_
  unfold T_X8_setBounds at h
  refine qm_aload_n E_X8_setBounds (by rfl) dX8_setBounds_0 ?_
  refine qm_iload_n E_X8_setBounds (by rfl) dX8_setBounds_1 ?_
  refine qm_callS (As := [.int a1]) (rest := [.ref M.2.2.1]) E_X8_setBounds rfl M_X8_isStore rfl q2038 q2039 rfl rfl (Nat.le_of_ble_eq_true rfl) dX8_setBounds_2 (C_X8_isStore (d := d) a1 S _ ?_)
  have Jv4 : ∀ v4 : Int32, v4 = (if (f_X8_isStore a1) = 0 then (1 : Int32) else if (f_X8_in a2 1 20) = 0 then (2 : Int32) else if (f_X8_in a3 0 12) = 0 then (2 : Int32) else (0 : Int32)) → qm_wp M (d + 2) I_X8_setBounds 37 [some (.ref M.2.2.1), some (.int a1), some (.int a2), some (.int a3), none] [.int v4, .ref M.2.2.1] S (fun v S' => ∃ r, v = some (.int r) ∧ K r S') := by
    rintro _ rfl
    refine qm_put E_X8_setBounds rfl 0 (by decide) q1657 rfl rfl rfl (qm_set0) dX8_setBounds_37 ?_
    refine qm_aload_n E_X8_setBounds (by rfl) dX8_setBounds_40 ?_
    refine qm_get E_X8_setBounds rfl 0 (by decide) q1657 (v := .int ((if (f_X8_isStore a1) = 0 then (1 : Int32) else if (f_X8_in a2 1 20) = 0 then (2 : Int32) else if (f_X8_in a3 0 12) = 0 then (2 : Int32) else (0 : Int32)))) rfl dX8_setBounds_41 ?_
    refine qm_if_le E_X8_setBounds 49 dX8_setBounds_44 (by decide) (fun (c5 : ((if (f_X8_isStore a1) = 0 then (1 : Int32) else if (f_X8_in a2 1 20) = 0 then (2 : Int32) else if (f_X8_in a3 0 12) = 0 then (2 : Int32) else (0 : Int32))) ≤ 0) => ?_) (fun (c5 : ¬ ((if (f_X8_isStore a1) = 0 then (1 : Int32) else if (f_X8_in a2 1 20) = 0 then (2 : Int32) else if (f_X8_in a3 0 12) = 0 then (2 : Int32) else (0 : Int32))) ≤ 0) => ?_)
    · have h := h.1 c5
      refine qm_aload_n E_X8_setBounds (by rfl) dX8_setBounds_49 ?_
      refine qm_get E_X8_setBounds rfl 11 (by decide) q1668 (v := .ref (M.2.2.2 11)) rfl dX8_setBounds_50 ?_
      refine qm_iload_n E_X8_setBounds (by rfl) dX8_setBounds_53 ?_
      obtain ⟨o6, h⟩ := h
      refine qm_iald E_X8_setBounds 11 (by decide) rfl o6 dX8_setBounds_54 ?_
      refine qm_istore E_X8_setBounds (by decide) dX8_setBounds_55 ?_
      refine qm_aload_n E_X8_setBounds (by rfl) dX8_setBounds_57 ?_
      refine qm_get E_X8_setBounds rfl 11 (by decide) q1668 (v := .ref (M.2.2.2 11)) rfl dX8_setBounds_58 ?_
      refine qm_iload_n E_X8_setBounds (by rfl) dX8_setBounds_61 ?_
      refine qm_iload_n E_X8_setBounds (by rfl) dX8_setBounds_62 ?_
      refine qm_iast E_X8_setBounds 11 (by decide) rfl o6 dX8_setBounds_63 ?_
      refine qm_aload_n E_X8_setBounds (by rfl) dX8_setBounds_64 ?_
      refine qm_get E_X8_setBounds rfl 12 (by decide) q1669 (v := .ref (M.2.2.2 12)) rfl dX8_setBounds_65 ?_
      refine qm_iload_n E_X8_setBounds (by rfl) dX8_setBounds_68 ?_
      refine qm_iload_n E_X8_setBounds (by rfl) dX8_setBounds_69 ?_
      obtain ⟨o7, h⟩ := h
      refine qm_iast E_X8_setBounds 12 (by decide) rfl o7 dX8_setBounds_70 ?_
      refine qm_iload E_X8_setBounds (by rfl) dX8_setBounds_71 ?_
      exact qm_iret E_X8_setBounds rfl dX8_setBounds_73 ⟨_, rfl, h⟩
    · have h := h.2 c5
      refine qm_iconst E_X8_setBounds 0 (by decide) dX8_setBounds_47 ?_
      exact qm_iret E_X8_setBounds rfl dX8_setBounds_48 ⟨_, rfl, h⟩
  refine qm_if_ne E_X8_setBounds 12 dX8_setBounds_5 (by decide) (fun (c1 : ¬ (f_X8_isStore a1) = 0) => ?_) (fun (c1 : (f_X8_isStore a1) = 0) => ?_)
  · refine qm_iload_n E_X8_setBounds (by rfl) dX8_setBounds_12 ?_
    refine qm_iconst E_X8_setBounds 1 (by decide) dX8_setBounds_13 ?_
    refine qm_bipush E_X8_setBounds 20 (by decide) dX8_setBounds_14 ?_
    refine qm_callS (As := [.int a2, .int 1, .int 20]) (rest := [.ref M.2.2.1]) E_X8_setBounds rfl M_X8_in rfl q1951 q1952 rfl rfl (Nat.le_of_ble_eq_true rfl) dX8_setBounds_16 (C_X8_in (d := d + 1) a2 1 20 S _ ?_)
    refine qm_if_eq E_X8_setBounds 36 dX8_setBounds_19 (by decide) (fun (c2 : (f_X8_in a2 1 20) = 0) => ?_) (fun (c2 : ¬ (f_X8_in a2 1 20) = 0) => ?_)
    · refine qm_iconst E_X8_setBounds 2 (by decide) dX8_setBounds_36 ?_
      exact Jv4 ((2 : Int32)) (by rw [if_neg c1, if_pos c2])
    · refine qm_iload_n E_X8_setBounds (by rfl) dX8_setBounds_22 ?_
      refine qm_iconst E_X8_setBounds 0 (by decide) dX8_setBounds_23 ?_
      refine qm_bipush E_X8_setBounds 12 (by decide) dX8_setBounds_24 ?_
      refine qm_callS (As := [.int a3, .int 0, .int 12]) (rest := [.ref M.2.2.1]) E_X8_setBounds rfl M_X8_in rfl q1951 q1952 rfl rfl (Nat.le_of_ble_eq_true rfl) dX8_setBounds_26 (C_X8_in (d := d + 1) a3 0 12 S _ ?_)
      refine qm_if_eq E_X8_setBounds 36 dX8_setBounds_29 (by decide) (fun (c3 : (f_X8_in a3 0 12) = 0) => ?_) (fun (c3 : ¬ (f_X8_in a3 0 12) = 0) => ?_)
      · refine qm_iconst E_X8_setBounds 2 (by decide) dX8_setBounds_36 ?_
        exact Jv4 ((2 : Int32)) (by rw [if_neg c1, if_neg c2, if_pos c3])
      · refine qm_iconst E_X8_setBounds 0 (by decide) dX8_setBounds_32 ?_
        refine qm_goto E_X8_setBounds 37 dX8_setBounds_33 (by decide) ?_
        exact Jv4 ((0 : Int32)) (by rw [if_neg c1, if_neg c2, if_neg c3])
  · refine qm_iconst E_X8_setBounds 1 (by decide) dX8_setBounds_8 ?_
    refine qm_goto E_X8_setBounds 37 dX8_setBounds_9 (by decide) ?_
    exact Jv4 ((1 : Int32)) (by rw [if_pos c1])
def I_X8_setLease : qh_I := (yX8_setLease, cX8_setLease, 4, (Option.some Jvm.ClassFile.FieldType.int), [])
theorem E_X8_setLease : I_X8_setLease.2.1 = cX8_setLease := rfl
theorem M_X8_setLease : qh_M I_X8_setLease 2 := ⟨by decide, by decide, by decide +kernel, q95, q2048, by decide⟩
def T_X8_setLease (a1 a2 : Int32) (S : qm_S) (K : Int32 → qm_S → Prop) : Prop := (((if (f_X8_isStore a1) = 0 then (1 : Int32) else if (f_X8_in a2 0 200) = 0 then (2 : Int32) else (0 : Int32))) ≤ 0 → vp_in a1 (qm_len 13) ∧ T_X8_drops ((upd S.1 0 ((if (f_X8_isStore a1) = 0 then (1 : Int32) else if (f_X8_in a2 0 200) = 0 then (2 : Int32) else (0 : Int32))), qm_uA S.2 13 (upd (S.2 13) a1.toNatClampNeg a2))) (fun S6 => K (S.2 13 a1.toNatClampNeg) S6)) ∧ (¬ ((if (f_X8_isStore a1) = 0 then (1 : Int32) else if (f_X8_in a2 0 200) = 0 then (2 : Int32) else (0 : Int32))) ≤ 0 → K 0 ((upd S.1 0 ((if (f_X8_isStore a1) = 0 then (1 : Int32) else if (f_X8_in a2 0 200) = 0 then (2 : Int32) else (0 : Int32))), S.2)))
set_option maxHeartbeats 4000000 in
theorem C_X8_setLease {M : qm_G} {d : Nat} (a1 a2 : Int32) (S : qm_S) (K : Int32 → qm_S → Prop) (h : T_X8_setLease a1 a2 S K) : qm_C M (d + 2) I_X8_setLease [.ref M.2.2.1, .int a1, .int a2] S (fun v S' => ∃ r, v = some (.int r) ∧ K r S') := by
  refine qm_C.of (by decide) rfl (ls := [some (.ref M.2.2.1), some (.int a1), some (.int a2), none]) rfl (Nat.le_of_ble_eq_true rfl) (qm_ct rfl) ?_
  unfold T_X8_setLease at h
  refine qm_aload_n E_X8_setLease (by rfl) dX8_setLease_0 ?_
  refine qm_iload_n E_X8_setLease (by rfl) dX8_setLease_1 ?_
  refine qm_callS (As := [.int a1]) (rest := [.ref M.2.2.1]) E_X8_setLease rfl M_X8_isStore rfl q2038 q2039 rfl rfl (Nat.le_of_ble_eq_true rfl) dX8_setLease_2 (C_X8_isStore (d := d) a1 S _ ?_)
  have Jv3 : ∀ v3 : Int32, v3 = (if (f_X8_isStore a1) = 0 then (1 : Int32) else if (f_X8_in a2 0 200) = 0 then (2 : Int32) else (0 : Int32)) → qm_wp M (d + 2) I_X8_setLease 28 [some (.ref M.2.2.1), some (.int a1), some (.int a2), none] [.int v3, .ref M.2.2.1] S (fun v S' => ∃ r, v = some (.int r) ∧ K r S') := by
    rintro _ rfl
    refine qm_put E_X8_setLease rfl 0 (by decide) q1657 rfl rfl rfl (qm_set0) dX8_setLease_28 ?_
    refine qm_aload_n E_X8_setLease (by rfl) dX8_setLease_31 ?_
    refine qm_get E_X8_setLease rfl 0 (by decide) q1657 (v := .int ((if (f_X8_isStore a1) = 0 then (1 : Int32) else if (f_X8_in a2 0 200) = 0 then (2 : Int32) else (0 : Int32)))) rfl dX8_setLease_32 ?_
    refine qm_if_le E_X8_setLease 40 dX8_setLease_35 (by decide) (fun (c4 : ((if (f_X8_isStore a1) = 0 then (1 : Int32) else if (f_X8_in a2 0 200) = 0 then (2 : Int32) else (0 : Int32))) ≤ 0) => ?_) (fun (c4 : ¬ ((if (f_X8_isStore a1) = 0 then (1 : Int32) else if (f_X8_in a2 0 200) = 0 then (2 : Int32) else (0 : Int32))) ≤ 0) => ?_)
    · have h := h.1 c4
      refine qm_aload_n E_X8_setLease (by rfl) dX8_setLease_40 ?_
      refine qm_get E_X8_setLease rfl 13 (by decide) q1670 (v := .ref (M.2.2.2 13)) rfl dX8_setLease_41 ?_
      refine qm_iload_n E_X8_setLease (by rfl) dX8_setLease_44 ?_
      obtain ⟨o5, h⟩ := h
      refine qm_iald E_X8_setLease 13 (by decide) rfl o5 dX8_setLease_45 ?_
      refine qm_istore_n E_X8_setLease (by decide) dX8_setLease_46 ?_
      refine qm_aload_n E_X8_setLease (by rfl) dX8_setLease_47 ?_
      refine qm_get E_X8_setLease rfl 13 (by decide) q1670 (v := .ref (M.2.2.2 13)) rfl dX8_setLease_48 ?_
      refine qm_iload_n E_X8_setLease (by rfl) dX8_setLease_51 ?_
      refine qm_iload_n E_X8_setLease (by rfl) dX8_setLease_52 ?_
      refine qm_iast E_X8_setLease 13 (by decide) rfl o5 dX8_setLease_53 ?_
      refine qm_aload_n E_X8_setLease (by rfl) dX8_setLease_54 ?_
      refine qm_callV (As := []) (rest := []) E_X8_setLease rfl M_X8_drops rfl q1990 q1992 qs39 rfl rfl rfl (Nat.le_of_ble_eq_true rfl) dX8_setLease_55 (qm_C.mono ?_ (C_X8_drops (d := d)  ((upd S.1 0 ((if (f_X8_isStore a1) = 0 then (1 : Int32) else if (f_X8_in a2 0 200) = 0 then (2 : Int32) else (0 : Int32))), qm_uA S.2 13 (upd (S.2 13) a1.toNatClampNeg a2))) _ h))
      rintro _ S6 ⟨rfl, h⟩
      refine qm_iload_n E_X8_setLease (by rfl) dX8_setLease_58 ?_
      exact qm_iret E_X8_setLease rfl dX8_setLease_59 ⟨_, rfl, h⟩
    · have h := h.2 c4
      refine qm_iconst E_X8_setLease 0 (by decide) dX8_setLease_38 ?_
      exact qm_iret E_X8_setLease rfl dX8_setLease_39 ⟨_, rfl, h⟩
  refine qm_if_ne E_X8_setLease 12 dX8_setLease_5 (by decide) (fun (c1 : ¬ (f_X8_isStore a1) = 0) => ?_) (fun (c1 : (f_X8_isStore a1) = 0) => ?_)
  · refine qm_iload_n E_X8_setLease (by rfl) dX8_setLease_12 ?_
    refine qm_iconst E_X8_setLease 0 (by decide) dX8_setLease_13 ?_
    refine qm_sipush E_X8_setLease 200 (by decide) dX8_setLease_14 ?_
    refine qm_callS (As := [.int a2, .int 0, .int 200]) (rest := [.ref M.2.2.1]) E_X8_setLease rfl M_X8_in rfl q1951 q1952 rfl rfl (Nat.le_of_ble_eq_true rfl) dX8_setLease_17 (C_X8_in (d := d + 1) a2 0 200 S _ ?_)
    refine qm_if_eq E_X8_setLease 27 dX8_setLease_20 (by decide) (fun (c2 : (f_X8_in a2 0 200) = 0) => ?_) (fun (c2 : ¬ (f_X8_in a2 0 200) = 0) => ?_)
    · refine qm_iconst E_X8_setLease 2 (by decide) dX8_setLease_27 ?_
      exact Jv3 ((2 : Int32)) (by rw [if_neg c1, if_pos c2])
    · refine qm_iconst E_X8_setLease 0 (by decide) dX8_setLease_23 ?_
      refine qm_goto E_X8_setLease 28 dX8_setLease_24 (by decide) ?_
      exact Jv3 ((0 : Int32)) (by rw [if_neg c1, if_neg c2])
  · refine qm_iconst E_X8_setLease 1 (by decide) dX8_setLease_8 ?_
    refine qm_goto E_X8_setLease 28 dX8_setLease_9 (by decide) ?_
    exact Jv3 ((1 : Int32)) (by rw [if_pos c1])
def I_X8_fail : qh_I := (yX8_fail, cX8_fail, 5, (Option.some Jvm.ClassFile.FieldType.int), [])
theorem E_X8_fail : I_X8_fail.2.1 = cX8_fail := rfl
theorem M_X8_fail : qh_M I_X8_fail 3 := ⟨by decide, by decide, by decide +kernel, q95, q2052, by decide⟩
def T_X8_fail (a1 a2 a3 : Int32) (S : qm_S) (K : Int32 → qm_S → Prop) : Prop := (((if (f_X8_isStore a1) = 0 then (1 : Int32) else if (f_X8_in a2 0 20) = 0 then (2 : Int32) else (0 : Int32))) ≤ 0 → vp_in a1 (qm_len 14) ∧ (a3 = 0 ∨ a3 = 1) ∧ vp_in a1 (qm_len 15) ∧ K (S.2 14 a1.toNatClampNeg) ((upd S.1 0 ((if (f_X8_isStore a1) = 0 then (1 : Int32) else if (f_X8_in a2 0 20) = 0 then (2 : Int32) else (0 : Int32))), qm_uA (qm_uA S.2 14 (upd (S.2 14) a1.toNatClampNeg a2)) 15 (upd (S.2 15) a1.toNatClampNeg a3)))) ∧ (¬ ((if (f_X8_isStore a1) = 0 then (1 : Int32) else if (f_X8_in a2 0 20) = 0 then (2 : Int32) else (0 : Int32))) ≤ 0 → K 0 ((upd S.1 0 ((if (f_X8_isStore a1) = 0 then (1 : Int32) else if (f_X8_in a2 0 20) = 0 then (2 : Int32) else (0 : Int32))), S.2)))
set_option maxHeartbeats 4000000 in
theorem C_X8_fail {M : qm_G} {d : Nat} (a1 a2 a3 : Int32) (S : qm_S) (K : Int32 → qm_S → Prop) (h : T_X8_fail a1 a2 a3 S K) : qm_C M (d + 2) I_X8_fail [.ref M.2.2.1, .int a1, .int a2, .int a3] S (fun v S' => ∃ r, v = some (.int r) ∧ K r S') := by
  refine qm_C.of (by decide) rfl (ls := [some (.ref M.2.2.1), some (.int a1), some (.int a2), some (.int a3), none]) rfl (Nat.le_of_ble_eq_true rfl) (qm_ct rfl) ?_
  unfold T_X8_fail at h
  refine qm_aload_n E_X8_fail (by rfl) dX8_fail_0 ?_
  refine qm_iload_n E_X8_fail (by rfl) dX8_fail_1 ?_
  refine qm_callS (As := [.int a1]) (rest := [.ref M.2.2.1]) E_X8_fail rfl M_X8_isStore rfl q2038 q2039 rfl rfl (Nat.le_of_ble_eq_true rfl) dX8_fail_2 (C_X8_isStore (d := d) a1 S _ ?_)
  have Jv3 : ∀ v3 : Int32, v3 = (if (f_X8_isStore a1) = 0 then (1 : Int32) else if (f_X8_in a2 0 20) = 0 then (2 : Int32) else (0 : Int32)) → qm_wp M (d + 2) I_X8_fail 27 [some (.ref M.2.2.1), some (.int a1), some (.int a2), some (.int a3), none] [.int v3, .ref M.2.2.1] S (fun v S' => ∃ r, v = some (.int r) ∧ K r S') := by
    rintro _ rfl
    refine qm_put E_X8_fail rfl 0 (by decide) q1657 rfl rfl rfl (qm_set0) dX8_fail_27 ?_
    refine qm_aload_n E_X8_fail (by rfl) dX8_fail_30 ?_
    refine qm_get E_X8_fail rfl 0 (by decide) q1657 (v := .int ((if (f_X8_isStore a1) = 0 then (1 : Int32) else if (f_X8_in a2 0 20) = 0 then (2 : Int32) else (0 : Int32)))) rfl dX8_fail_31 ?_
    refine qm_if_le E_X8_fail 39 dX8_fail_34 (by decide) (fun (c4 : ((if (f_X8_isStore a1) = 0 then (1 : Int32) else if (f_X8_in a2 0 20) = 0 then (2 : Int32) else (0 : Int32))) ≤ 0) => ?_) (fun (c4 : ¬ ((if (f_X8_isStore a1) = 0 then (1 : Int32) else if (f_X8_in a2 0 20) = 0 then (2 : Int32) else (0 : Int32))) ≤ 0) => ?_)
    · have h := h.1 c4
      refine qm_aload_n E_X8_fail (by rfl) dX8_fail_39 ?_
      refine qm_get E_X8_fail rfl 14 (by decide) q1671 (v := .ref (M.2.2.2 14)) rfl dX8_fail_40 ?_
      refine qm_iload_n E_X8_fail (by rfl) dX8_fail_43 ?_
      obtain ⟨o5, h⟩ := h
      refine qm_iald E_X8_fail 14 (by decide) rfl o5 dX8_fail_44 ?_
      refine qm_istore E_X8_fail (by decide) dX8_fail_45 ?_
      refine qm_aload_n E_X8_fail (by rfl) dX8_fail_47 ?_
      refine qm_get E_X8_fail rfl 14 (by decide) q1671 (v := .ref (M.2.2.2 14)) rfl dX8_fail_48 ?_
      refine qm_iload_n E_X8_fail (by rfl) dX8_fail_51 ?_
      refine qm_iload_n E_X8_fail (by rfl) dX8_fail_52 ?_
      refine qm_iast E_X8_fail 14 (by decide) rfl o5 dX8_fail_53 ?_
      refine qm_aload_n E_X8_fail (by rfl) dX8_fail_54 ?_
      refine qm_get E_X8_fail rfl 15 (by decide) q1672 (v := .ref (M.2.2.2 15)) rfl dX8_fail_55 ?_
      refine qm_iload_n E_X8_fail (by rfl) dX8_fail_58 ?_
      refine qm_iload_n E_X8_fail (by rfl) dX8_fail_59 ?_
      obtain ⟨o7, h⟩ := h
      obtain ⟨o6, h⟩ := h
      refine qm_zast E_X8_fail 15 (by decide) rfl (qm_vb o7) o6 dX8_fail_60 ?_
      refine qm_iload E_X8_fail (by rfl) dX8_fail_61 ?_
      exact qm_iret E_X8_fail rfl dX8_fail_63 ⟨_, rfl, h⟩
    · have h := h.2 c4
      refine qm_iconst E_X8_fail 0 (by decide) dX8_fail_37 ?_
      exact qm_iret E_X8_fail rfl dX8_fail_38 ⟨_, rfl, h⟩
  refine qm_if_ne E_X8_fail 12 dX8_fail_5 (by decide) (fun (c1 : ¬ (f_X8_isStore a1) = 0) => ?_) (fun (c1 : (f_X8_isStore a1) = 0) => ?_)
  · refine qm_iload_n E_X8_fail (by rfl) dX8_fail_12 ?_
    refine qm_iconst E_X8_fail 0 (by decide) dX8_fail_13 ?_
    refine qm_bipush E_X8_fail 20 (by decide) dX8_fail_14 ?_
    refine qm_callS (As := [.int a2, .int 0, .int 20]) (rest := [.ref M.2.2.1]) E_X8_fail rfl M_X8_in rfl q1951 q1952 rfl rfl (Nat.le_of_ble_eq_true rfl) dX8_fail_16 (C_X8_in (d := d + 1) a2 0 20 S _ ?_)
    refine qm_if_eq E_X8_fail 26 dX8_fail_19 (by decide) (fun (c2 : (f_X8_in a2 0 20) = 0) => ?_) (fun (c2 : ¬ (f_X8_in a2 0 20) = 0) => ?_)
    · refine qm_iconst E_X8_fail 2 (by decide) dX8_fail_26 ?_
      exact Jv3 ((2 : Int32)) (by rw [if_neg c1, if_pos c2])
    · refine qm_iconst E_X8_fail 0 (by decide) dX8_fail_22 ?_
      refine qm_goto E_X8_fail 27 dX8_fail_23 (by decide) ?_
      exact Jv3 ((0 : Int32)) (by rw [if_neg c1, if_neg c2])
  · refine qm_iconst E_X8_fail 1 (by decide) dX8_fail_8 ?_
    refine qm_goto E_X8_fail 27 dX8_fail_9 (by decide) ?_
    exact Jv3 ((1 : Int32)) (by rw [if_pos c1])
def I_X8_isForbidden : qh_I := (yX8_isForbidden, cX8_isForbidden, 3, (Option.some Jvm.ClassFile.FieldType.boolean), [])
theorem E_X8_isForbidden : I_X8_isForbidden.2.1 = cX8_isForbidden := rfl
theorem M_X8_isForbidden : qh_M I_X8_isForbidden 2 := ⟨by decide, by decide, by decide +kernel, q95, q2060, by decide⟩
def f_X8_isForbidden (a1 a2 : Int32) (S : qm_S) : Int32 := if (((S.2 20 a1.toNatClampNeg) >>> (a2 &&& 31)) &&& 1) = 1 then (1 : Int32) else (0 : Int32)
def p_X8_isForbidden (a1 a2 : Int32) (S : qm_S) : Prop := vp_in a1 (qm_len 20)
theorem z_X8_isForbidden (a1 a2 : Int32) (S : qm_S) : (f_X8_isForbidden a1 a2 S) = 0 ∨ (f_X8_isForbidden a1 a2 S) = 1 := (qm_zi (Or.inr rfl) (Or.inl rfl))
set_option maxHeartbeats 4000000 in
theorem C_X8_isForbidden {M : qm_G} {d : Nat} (a1 a2 : Int32) (S : qm_S) (Q : Option Value → qm_S → Prop) (hp : p_X8_isForbidden a1 a2 S) (hq : Q (some (.int (f_X8_isForbidden a1 a2 S))) S) : qm_C M (d + 0) I_X8_isForbidden [.ref M.2.2.1, .int a1, .int a2] S Q := by
  refine qm_C.of (by decide) rfl (ls := [some (.ref M.2.2.1), some (.int a1), some (.int a2)]) rfl (Nat.le_of_ble_eq_true rfl) (qm_ct rfl) ?_
  have h := hp
  unfold p_X8_isForbidden at h
  unfold f_X8_isForbidden at hq
  refine qm_aload_n E_X8_isForbidden (by rfl) dX8_isForbidden_0 ?_
  refine qm_get E_X8_isForbidden rfl 20 (by decide) q1677 (v := .ref (M.2.2.2 20)) rfl dX8_isForbidden_1 ?_
  refine qm_iload_n E_X8_isForbidden (by rfl) dX8_isForbidden_4 ?_
  have o1 := h
  refine qm_iald E_X8_isForbidden 20 (by decide) rfl o1 dX8_isForbidden_5 ?_
  refine qm_iload_n E_X8_isForbidden (by rfl) dX8_isForbidden_6 ?_
  refine qm_ishr E_X8_isForbidden dX8_isForbidden_7 ?_
  refine qm_iconst E_X8_isForbidden 1 (by decide) dX8_isForbidden_8 ?_
  refine qm_iand E_X8_isForbidden dX8_isForbidden_9 ?_
  refine qm_iconst E_X8_isForbidden 1 (by decide) dX8_isForbidden_10 ?_
  refine qm_icmp_ne E_X8_isForbidden 18 dX8_isForbidden_11 (by decide) (fun (c2 : ¬ (((S.2 20 a1.toNatClampNeg) >>> (a2 &&& 31)) &&& 1) = 1) => ?_) (fun (c2 : (((S.2 20 a1.toNatClampNeg) >>> (a2 &&& 31)) &&& 1) = 1) => ?_)
  · rw [if_neg c2] at hq
    refine qm_iconst E_X8_isForbidden 0 (by decide) dX8_isForbidden_18 ?_
    exact qm_zret E_X8_isForbidden rfl (qm_nb (Or.inl rfl)) dX8_isForbidden_19 hq
  · rw [if_pos c2] at hq
    refine qm_iconst E_X8_isForbidden 1 (by decide) dX8_isForbidden_14 ?_
    refine qm_goto E_X8_isForbidden 19 dX8_isForbidden_15 (by decide) ?_
    exact qm_zret E_X8_isForbidden rfl (qm_nb (Or.inr rfl)) dX8_isForbidden_19 hq
def I_X8_forbid : qh_I := (yX8_forbid, cX8_forbid, 5, (Option.some Jvm.ClassFile.FieldType.boolean), [])
theorem E_X8_forbid : I_X8_forbid.2.1 = cX8_forbid := rfl
theorem M_X8_forbid : qh_M I_X8_forbid 3 := ⟨by decide, by decide, by decide +kernel, q95, q2056, by decide⟩
def T_X8_forbid (a1 a2 a3 : Int32) (S : qm_S) (K : Int32 → qm_S → Prop) : Prop := (((if (f_X8_isSource a1) = 0 then (1 : Int32) else if (f_X8_isStore a2) = 0 then (1 : Int32) else (0 : Int32))) ≤ 0 → p_X8_isForbidden a1 a2 ((upd S.1 0 ((if (f_X8_isSource a1) = 0 then (1 : Int32) else if (f_X8_isStore a2) = 0 then (1 : Int32) else (0 : Int32))), S.2)) ∧ ((a3 = 0 → vp_in a1 (qm_len 20)) ∧ (¬ a3 = 0 → vp_in a1 (qm_len 20))) ∧ vp_in a1 (qm_len 20) ∧ K (f_X8_isForbidden a1 a2 ((upd S.1 0 ((if (f_X8_isSource a1) = 0 then (1 : Int32) else if (f_X8_isStore a2) = 0 then (1 : Int32) else (0 : Int32))), S.2))) ((upd S.1 0 ((if (f_X8_isSource a1) = 0 then (1 : Int32) else if (f_X8_isStore a2) = 0 then (1 : Int32) else (0 : Int32))), qm_uA S.2 20 (upd (S.2 20) a1.toNatClampNeg ((if a3 = 0 then (S.2 20 a1.toNatClampNeg) &&& ((1 <<< (a2 &&& 31)) ^^^ ((-1))) else (S.2 20 a1.toNatClampNeg) ||| (1 <<< (a2 &&& 31)))))))) ∧ (¬ ((if (f_X8_isSource a1) = 0 then (1 : Int32) else if (f_X8_isStore a2) = 0 then (1 : Int32) else (0 : Int32))) ≤ 0 → K 0 ((upd S.1 0 ((if (f_X8_isSource a1) = 0 then (1 : Int32) else if (f_X8_isStore a2) = 0 then (1 : Int32) else (0 : Int32))), S.2)))
set_option maxHeartbeats 4000000 in
theorem C_X8_forbid {M : qm_G} {d : Nat} (a1 a2 a3 : Int32) (S : qm_S) (K : Int32 → qm_S → Prop) (h : T_X8_forbid a1 a2 a3 S K) : qm_C M (d + 2) I_X8_forbid [.ref M.2.2.1, .int a1, .int a2, .int a3] S (fun v S' => ∃ r, v = some (.int r) ∧ (r = 0 ∨ r = 1) ∧ K r S') := by
  refine qm_C.of (by decide) rfl (ls := [some (.ref M.2.2.1), some (.int a1), some (.int a2), some (.int a3), none]) rfl (Nat.le_of_ble_eq_true rfl) (qm_ct rfl) ?_
  unfold T_X8_forbid at h
  refine qm_aload_n E_X8_forbid (by rfl) dX8_forbid_0 ?_
  refine qm_iload_n E_X8_forbid (by rfl) dX8_forbid_1 ?_
  refine qm_callS (As := [.int a1]) (rest := [.ref M.2.2.1]) E_X8_forbid rfl M_X8_isSource rfl q1948 q1949 rfl rfl (Nat.le_of_ble_eq_true rfl) dX8_forbid_2 (C_X8_isSource (d := d) a1 S _ ?_)
  have Jv3 : ∀ v3 : Int32, v3 = (if (f_X8_isSource a1) = 0 then (1 : Int32) else if (f_X8_isStore a2) = 0 then (1 : Int32) else (0 : Int32)) → qm_wp M (d + 2) I_X8_forbid 20 [some (.ref M.2.2.1), some (.int a1), some (.int a2), some (.int a3), none] [.int v3, .ref M.2.2.1] S (fun v S' => ∃ r, v = some (.int r) ∧ (r = 0 ∨ r = 1) ∧ K r S') := by
    rintro _ rfl
    refine qm_put E_X8_forbid rfl 0 (by decide) q1657 rfl rfl rfl (qm_set0) dX8_forbid_20 ?_
    refine qm_aload_n E_X8_forbid (by rfl) dX8_forbid_23 ?_
    refine qm_get E_X8_forbid rfl 0 (by decide) q1657 (v := .int ((if (f_X8_isSource a1) = 0 then (1 : Int32) else if (f_X8_isStore a2) = 0 then (1 : Int32) else (0 : Int32)))) rfl dX8_forbid_24 ?_
    refine qm_if_le E_X8_forbid 32 dX8_forbid_27 (by decide) (fun (c4 : ((if (f_X8_isSource a1) = 0 then (1 : Int32) else if (f_X8_isStore a2) = 0 then (1 : Int32) else (0 : Int32))) ≤ 0) => ?_) (fun (c4 : ¬ ((if (f_X8_isSource a1) = 0 then (1 : Int32) else if (f_X8_isStore a2) = 0 then (1 : Int32) else (0 : Int32))) ≤ 0) => ?_)
    · have h := h.1 c4
      refine qm_aload_n E_X8_forbid (by rfl) dX8_forbid_32 ?_
      refine qm_iload_n E_X8_forbid (by rfl) dX8_forbid_33 ?_
      refine qm_iload_n E_X8_forbid (by rfl) dX8_forbid_34 ?_
      obtain ⟨o5, h⟩ := h
      refine qm_callV (As := [.int a1, .int a2]) (rest := []) E_X8_forbid rfl M_X8_isForbidden rfl q2057 q2059 qs44 rfl rfl rfl (Nat.le_of_ble_eq_true rfl) dX8_forbid_35 (C_X8_isForbidden (d := d + 1) a1 a2 ((upd S.1 0 ((if (f_X8_isSource a1) = 0 then (1 : Int32) else if (f_X8_isStore a2) = 0 then (1 : Int32) else (0 : Int32))), S.2)) _ o5 ?_)
      refine qm_istore E_X8_forbid (by decide) dX8_forbid_38 ?_
      refine qm_aload_n E_X8_forbid (by rfl) dX8_forbid_40 ?_
      refine qm_get E_X8_forbid rfl 20 (by decide) q1677 (v := .ref (M.2.2.2 20)) rfl dX8_forbid_41 ?_
      refine qm_iload_n E_X8_forbid (by rfl) dX8_forbid_44 ?_
      refine qm_iload_n E_X8_forbid (by rfl) dX8_forbid_45 ?_
      obtain ⟨h9, h⟩ := h
      have Jv9 : ∀ v9 : Int32, v9 = (if a3 = 0 then (S.2 20 a1.toNatClampNeg) &&& ((1 <<< (a2 &&& 31)) ^^^ ((-1))) else (S.2 20 a1.toNatClampNeg) ||| (1 <<< (a2 &&& 31))) → qm_wp M (d + 2) I_X8_forbid 74 [some (.ref M.2.2.1), some (.int a1), some (.int a2), some (.int a3), some (.int (f_X8_isForbidden a1 a2 ((upd S.1 0 ((if (f_X8_isSource a1) = 0 then (1 : Int32) else if (f_X8_isStore a2) = 0 then (1 : Int32) else (0 : Int32))), S.2))))] [.int v9, .int a1, .ref (M.2.2.2 20)] (upd S.1 0 ((if (f_X8_isSource a1) = 0 then (1 : Int32) else if (f_X8_isStore a2) = 0 then (1 : Int32) else (0 : Int32))), S.2) (fun v S' => ∃ r, v = some (.int r) ∧ (r = 0 ∨ r = 1) ∧ K r S') := by
        rintro _ rfl
        obtain ⟨o10, h⟩ := h
        refine qm_iast E_X8_forbid 20 (by decide) rfl o10 dX8_forbid_74 ?_
        refine qm_iload E_X8_forbid (by rfl) dX8_forbid_75 ?_
        exact qm_zret E_X8_forbid rfl (qm_nb (z_X8_isForbidden a1 a2 ((upd S.1 0 ((if (f_X8_isSource a1) = 0 then (1 : Int32) else if (f_X8_isStore a2) = 0 then (1 : Int32) else (0 : Int32))), S.2)))) dX8_forbid_77 ⟨_, rfl, (z_X8_isForbidden a1 a2 ((upd S.1 0 ((if (f_X8_isSource a1) = 0 then (1 : Int32) else if (f_X8_isStore a2) = 0 then (1 : Int32) else (0 : Int32))), S.2))), h⟩
      have h := h9
      refine qm_if_eq E_X8_forbid 62 dX8_forbid_46 (by decide) (fun (c6 : a3 = 0) => ?_) (fun (c6 : ¬ a3 = 0) => ?_)
      · have h := h.1 c6
        refine qm_aload_n E_X8_forbid (by rfl) dX8_forbid_62 ?_
        refine qm_get E_X8_forbid rfl 20 (by decide) q1677 (v := .ref (M.2.2.2 20)) rfl dX8_forbid_63 ?_
        refine qm_iload_n E_X8_forbid (by rfl) dX8_forbid_66 ?_
        have o7 := h
        refine qm_iald E_X8_forbid 20 (by decide) rfl o7 dX8_forbid_67 ?_
        refine qm_iconst E_X8_forbid 1 (by decide) dX8_forbid_68 ?_
        refine qm_iload_n E_X8_forbid (by rfl) dX8_forbid_69 ?_
        refine qm_ishl E_X8_forbid dX8_forbid_70 ?_
        refine qm_iconst E_X8_forbid (-1) (by decide) dX8_forbid_71 ?_
        refine qm_ixor E_X8_forbid dX8_forbid_72 ?_
        refine qm_iand E_X8_forbid dX8_forbid_73 ?_
        exact Jv9 ((S.2 20 a1.toNatClampNeg) &&& ((1 <<< (a2 &&& 31)) ^^^ ((-1)))) (by rw [if_pos c6])
      · have h := h.2 c6
        refine qm_aload_n E_X8_forbid (by rfl) dX8_forbid_49 ?_
        refine qm_get E_X8_forbid rfl 20 (by decide) q1677 (v := .ref (M.2.2.2 20)) rfl dX8_forbid_50 ?_
        refine qm_iload_n E_X8_forbid (by rfl) dX8_forbid_53 ?_
        have o8 := h
        refine qm_iald E_X8_forbid 20 (by decide) rfl o8 dX8_forbid_54 ?_
        refine qm_iconst E_X8_forbid 1 (by decide) dX8_forbid_55 ?_
        refine qm_iload_n E_X8_forbid (by rfl) dX8_forbid_56 ?_
        refine qm_ishl E_X8_forbid dX8_forbid_57 ?_
        refine qm_ior E_X8_forbid dX8_forbid_58 ?_
        refine qm_goto E_X8_forbid 74 dX8_forbid_59 (by decide) ?_
        exact Jv9 ((S.2 20 a1.toNatClampNeg) ||| (1 <<< (a2 &&& 31))) (by rw [if_neg c6])
    · have h := h.2 c4
      refine qm_iconst E_X8_forbid 0 (by decide) dX8_forbid_30 ?_
      exact qm_zret E_X8_forbid rfl (qm_nb (Or.inl rfl)) dX8_forbid_31 ⟨_, rfl, (Or.inl rfl), h⟩
  refine qm_if_eq E_X8_forbid 19 dX8_forbid_5 (by decide) (fun (c1 : (f_X8_isSource a1) = 0) => ?_) (fun (c1 : ¬ (f_X8_isSource a1) = 0) => ?_)
  · refine qm_iconst E_X8_forbid 1 (by decide) dX8_forbid_19 ?_
    exact Jv3 ((1 : Int32)) (by rw [if_pos c1])
  · refine qm_iload_n E_X8_forbid (by rfl) dX8_forbid_8 ?_
    refine qm_callS (As := [.int a2]) (rest := [.ref M.2.2.1]) E_X8_forbid rfl M_X8_isStore rfl q2038 q2039 rfl rfl (Nat.le_of_ble_eq_true rfl) dX8_forbid_9 (C_X8_isStore (d := d) a2 S _ ?_)
    refine qm_if_eq E_X8_forbid 19 dX8_forbid_12 (by decide) (fun (c2 : (f_X8_isStore a2) = 0) => ?_) (fun (c2 : ¬ (f_X8_isStore a2) = 0) => ?_)
    · refine qm_iconst E_X8_forbid 1 (by decide) dX8_forbid_19 ?_
      exact Jv3 ((1 : Int32)) (by rw [if_neg c1, if_pos c2])
    · refine qm_iconst E_X8_forbid 0 (by decide) dX8_forbid_15 ?_
      refine qm_goto E_X8_forbid 20 dX8_forbid_16 (by decide) ?_
      exact Jv3 ((0 : Int32)) (by rw [if_neg c1, if_neg c2])
def I_X8_goes : qh_I := (yX8_goes, cX8_goes, 2, (Option.none : Option Jvm.ClassFile.FieldType), [])
theorem E_X8_goes : I_X8_goes.2.1 = cX8_goes := rfl
theorem M_X8_goes : qh_M I_X8_goes 1 := ⟨by decide, by decide, by decide +kernel, q95, q2068, by decide⟩
def T_X8_goes (a1 : Int32) (S : qm_S) (K : qm_S → Prop) : Prop := T_X8_drops ((upd S.1 8 ((S.1 8) + a1), S.2)) (fun S1 => K S1)
set_option maxHeartbeats 4000000 in
theorem C_X8_goes {M : qm_G} {d : Nat} (a1 : Int32) (S : qm_S) (K : qm_S → Prop) (h : T_X8_goes a1 S K) : qm_C M (d + 2) I_X8_goes [.ref M.2.2.1, .int a1] S (fun v S' => v = none ∧ K S') := by
  refine qm_C.of (by decide) rfl (ls := [some (.ref M.2.2.1), some (.int a1)]) rfl (Nat.le_of_ble_eq_true rfl) (qm_ct rfl) ?_
  unfold T_X8_goes at h
  refine qm_aload_n E_X8_goes (by rfl) dX8_goes_0 ?_
  refine qm_dup E_X8_goes rfl dX8_goes_1 ?_
  refine qm_get E_X8_goes rfl 8 (by decide) q1665 (v := .int (S.1 8)) rfl dX8_goes_2 ?_
  refine qm_iload_n E_X8_goes (by rfl) dX8_goes_5 ?_
  refine qm_iadd E_X8_goes dX8_goes_6 ?_
  refine qm_put E_X8_goes rfl 8 (by decide) q1665 rfl rfl rfl (qm_set8) dX8_goes_7 ?_
  refine qm_aload_n E_X8_goes (by rfl) dX8_goes_10 ?_
  refine qm_callV (As := []) (rest := []) E_X8_goes rfl M_X8_drops rfl q1990 q1992 qs39 rfl rfl rfl (Nat.le_of_ble_eq_true rfl) dX8_goes_11 (qm_C.mono ?_ (C_X8_drops (d := d)  ((upd S.1 8 ((S.1 8) + a1), S.2)) _ h))
  rintro _ S1 ⟨rfl, h⟩
  exact qm_vret E_X8_goes rfl dX8_goes_14 ⟨rfl, h⟩
def I_X8_pass : qh_I := (yX8_pass, cX8_pass, 2, (Option.some Jvm.ClassFile.FieldType.int), [])
theorem E_X8_pass : I_X8_pass.2.1 = cX8_pass := rfl
theorem M_X8_pass : qh_M I_X8_pass 1 := ⟨by decide, by decide, by decide +kernel, q95, q2064, by decide⟩
def T_X8_pass (a1 : Int32) (S : qm_S) (K : Int32 → qm_S → Prop) : Prop := (((if (f_X8_in a1 1 100) = 0 then (1 : Int32) else (0 : Int32))) ≤ 0 → T_X8_goes a1 ((upd S.1 0 ((if (f_X8_in a1 1 100) = 0 then (1 : Int32) else (0 : Int32))), S.2)) (fun S4 => K (S4.1 8) S4)) ∧ (¬ ((if (f_X8_in a1 1 100) = 0 then (1 : Int32) else (0 : Int32))) ≤ 0 → K 0 ((upd S.1 0 ((if (f_X8_in a1 1 100) = 0 then (1 : Int32) else (0 : Int32))), S.2)))
set_option maxHeartbeats 4000000 in
theorem C_X8_pass {M : qm_G} {d : Nat} (a1 : Int32) (S : qm_S) (K : Int32 → qm_S → Prop) (h : T_X8_pass a1 S K) : qm_C M (d + 3) I_X8_pass [.ref M.2.2.1, .int a1] S (fun v S' => ∃ r, v = some (.int r) ∧ K r S') := by
  refine qm_C.of (by decide) rfl (ls := [some (.ref M.2.2.1), some (.int a1)]) rfl (Nat.le_of_ble_eq_true rfl) (qm_ct rfl) ?_
  unfold T_X8_pass at h
  refine qm_aload_n E_X8_pass (by rfl) dX8_pass_0 ?_
  refine qm_iload_n E_X8_pass (by rfl) dX8_pass_1 ?_
  refine qm_iconst E_X8_pass 1 (by decide) dX8_pass_2 ?_
  refine qm_bipush E_X8_pass 100 (by decide) dX8_pass_3 ?_
  refine qm_callS (As := [.int a1, .int 1, .int 100]) (rest := [.ref M.2.2.1]) E_X8_pass rfl M_X8_in rfl q1951 q1952 rfl rfl (Nat.le_of_ble_eq_true rfl) dX8_pass_5 (C_X8_in (d := d + 2) a1 1 100 S _ ?_)
  have Jv2 : ∀ v2 : Int32, v2 = (if (f_X8_in a1 1 100) = 0 then (1 : Int32) else (0 : Int32)) → qm_wp M (d + 3) I_X8_pass 16 [some (.ref M.2.2.1), some (.int a1)] [.int v2, .ref M.2.2.1] S (fun v S' => ∃ r, v = some (.int r) ∧ K r S') := by
    rintro _ rfl
    refine qm_put E_X8_pass rfl 0 (by decide) q1657 rfl rfl rfl (qm_set0) dX8_pass_16 ?_
    refine qm_aload_n E_X8_pass (by rfl) dX8_pass_19 ?_
    refine qm_get E_X8_pass rfl 0 (by decide) q1657 (v := .int ((if (f_X8_in a1 1 100) = 0 then (1 : Int32) else (0 : Int32)))) rfl dX8_pass_20 ?_
    refine qm_if_le E_X8_pass 28 dX8_pass_23 (by decide) (fun (c3 : ((if (f_X8_in a1 1 100) = 0 then (1 : Int32) else (0 : Int32))) ≤ 0) => ?_) (fun (c3 : ¬ ((if (f_X8_in a1 1 100) = 0 then (1 : Int32) else (0 : Int32))) ≤ 0) => ?_)
    · have h := h.1 c3
      refine qm_aload_n E_X8_pass (by rfl) dX8_pass_28 ?_
      refine qm_iload_n E_X8_pass (by rfl) dX8_pass_29 ?_
      refine qm_callV (As := [.int a1]) (rest := []) E_X8_pass rfl M_X8_goes rfl q2065 q2067 qs45 rfl rfl rfl (Nat.le_of_ble_eq_true rfl) dX8_pass_30 (qm_C.mono ?_ (C_X8_goes (d := d) a1 ((upd S.1 0 ((if (f_X8_in a1 1 100) = 0 then (1 : Int32) else (0 : Int32))), S.2)) _ h))
      rintro _ S4 ⟨rfl, h⟩
      refine qm_aload_n E_X8_pass (by rfl) dX8_pass_33 ?_
      refine qm_get E_X8_pass rfl 8 (by decide) q1665 (v := .int (S4.1 8)) rfl dX8_pass_34 ?_
      exact qm_iret E_X8_pass rfl dX8_pass_37 ⟨_, rfl, h⟩
    · have h := h.2 c3
      refine qm_iconst E_X8_pass 0 (by decide) dX8_pass_26 ?_
      exact qm_iret E_X8_pass rfl dX8_pass_27 ⟨_, rfl, h⟩
  refine qm_if_eq E_X8_pass 15 dX8_pass_8 (by decide) (fun (c1 : (f_X8_in a1 1 100) = 0) => ?_) (fun (c1 : ¬ (f_X8_in a1 1 100) = 0) => ?_)
  · refine qm_iconst E_X8_pass 1 (by decide) dX8_pass_15 ?_
    exact Jv2 ((1 : Int32)) (by rw [if_pos c1])
  · refine qm_iconst E_X8_pass 0 (by decide) dX8_pass_11 ?_
    refine qm_goto E_X8_pass 16 dX8_pass_12 (by decide) ?_
    exact Jv2 ((0 : Int32)) (by rw [if_neg c1])
def I_X8_now : qh_I := (yX8_now, cX8_now, 1, (Option.some Jvm.ClassFile.FieldType.int), [])
theorem E_X8_now : I_X8_now.2.1 = cX8_now := rfl
theorem M_X8_now : qh_M I_X8_now 0 := ⟨by decide, by decide, by decide +kernel, q95, q2072, by decide⟩
def T_X8_now (S : qm_S) (K : Int32 → qm_S → Prop) : Prop := K (S.1 8) ((upd S.1 0 0, S.2))
set_option maxHeartbeats 4000000 in
theorem C_X8_now {M : qm_G} {d : Nat} (S : qm_S) (K : Int32 → qm_S → Prop) (h : T_X8_now  S K) : qm_C M (d + 0) I_X8_now [.ref M.2.2.1] S (fun v S' => ∃ r, v = some (.int r) ∧ K r S') := by
  refine qm_C.of (by decide) rfl (ls := [some (.ref M.2.2.1)]) rfl (Nat.le_of_ble_eq_true rfl) (qm_ct rfl) ?_
  unfold T_X8_now at h
  refine qm_aload_n E_X8_now (by rfl) dX8_now_0 ?_
  refine qm_iconst E_X8_now 0 (by decide) dX8_now_1 ?_
  refine qm_put E_X8_now rfl 0 (by decide) q1657 rfl rfl rfl (qm_set0) dX8_now_2 ?_
  refine qm_aload_n E_X8_now (by rfl) dX8_now_5 ?_
  refine qm_get E_X8_now rfl 8 (by decide) q1665 (v := .int (S.1 8)) rfl dX8_now_6 ?_
  exact qm_iret E_X8_now rfl dX8_now_9 ⟨_, rfl, h⟩
def I_X8_seat : qh_I := (yX8_seat, cX8_seat, 2, (Option.some Jvm.ClassFile.FieldType.int), [])
theorem E_X8_seat : I_X8_seat.2.1 = cX8_seat := rfl
theorem M_X8_seat : qh_M I_X8_seat 1 := ⟨by decide, by decide, by decide +kernel, q95, q2076, by decide⟩
def T_X8_seat (a1 : Int32) (S : qm_S) (K : Int32 → qm_S → Prop) : Prop := (((if (f_X8_isSource a1) = 0 then (1 : Int32) else if (S.1 22) = 3 then (2 : Int32) else (0 : Int32))) ≤ 0 → vp_in (S.1 22) (qm_len 23) ∧ K (((S.1 22) + 1) - 1) ((upd (upd S.1 0 ((if (f_X8_isSource a1) = 0 then (1 : Int32) else if (S.1 22) = 3 then (2 : Int32) else (0 : Int32)))) 22 ((S.1 22) + 1), qm_uA S.2 23 (upd (S.2 23) (S.1 22).toNatClampNeg a1)))) ∧ (¬ ((if (f_X8_isSource a1) = 0 then (1 : Int32) else if (S.1 22) = 3 then (2 : Int32) else (0 : Int32))) ≤ 0 → K 0 ((upd S.1 0 ((if (f_X8_isSource a1) = 0 then (1 : Int32) else if (S.1 22) = 3 then (2 : Int32) else (0 : Int32))), S.2)))
set_option maxHeartbeats 4000000 in
theorem C_X8_seat {M : qm_G} {d : Nat} (a1 : Int32) (S : qm_S) (K : Int32 → qm_S → Prop) (h : T_X8_seat a1 S K) : qm_C M (d + 2) I_X8_seat [.ref M.2.2.1, .int a1] S (fun v S' => ∃ r, v = some (.int r) ∧ K r S') := by
  refine qm_C.of (by decide) rfl (ls := [some (.ref M.2.2.1), some (.int a1)]) rfl (Nat.le_of_ble_eq_true rfl) (qm_ct rfl) ?_
  unfold T_X8_seat at h
  refine qm_aload_n E_X8_seat (by rfl) dX8_seat_0 ?_
  refine qm_iload_n E_X8_seat (by rfl) dX8_seat_1 ?_
  refine qm_callS (As := [.int a1]) (rest := [.ref M.2.2.1]) E_X8_seat rfl M_X8_isSource rfl q1948 q1949 rfl rfl (Nat.le_of_ble_eq_true rfl) dX8_seat_2 (C_X8_isSource (d := d) a1 S _ ?_)
  have Jv3 : ∀ v3 : Int32, v3 = (if (f_X8_isSource a1) = 0 then (1 : Int32) else if (S.1 22) = 3 then (2 : Int32) else (0 : Int32)) → qm_wp M (d + 2) I_X8_seat 25 [some (.ref M.2.2.1), some (.int a1)] [.int v3, .ref M.2.2.1] S (fun v S' => ∃ r, v = some (.int r) ∧ K r S') := by
    rintro _ rfl
    refine qm_put E_X8_seat rfl 0 (by decide) q1657 rfl rfl rfl (qm_set0) dX8_seat_25 ?_
    refine qm_aload_n E_X8_seat (by rfl) dX8_seat_28 ?_
    refine qm_get E_X8_seat rfl 0 (by decide) q1657 (v := .int ((if (f_X8_isSource a1) = 0 then (1 : Int32) else if (S.1 22) = 3 then (2 : Int32) else (0 : Int32)))) rfl dX8_seat_29 ?_
    refine qm_if_le E_X8_seat 37 dX8_seat_32 (by decide) (fun (c4 : ((if (f_X8_isSource a1) = 0 then (1 : Int32) else if (S.1 22) = 3 then (2 : Int32) else (0 : Int32))) ≤ 0) => ?_) (fun (c4 : ¬ ((if (f_X8_isSource a1) = 0 then (1 : Int32) else if (S.1 22) = 3 then (2 : Int32) else (0 : Int32))) ≤ 0) => ?_)
    · have h := h.1 c4
      refine qm_aload_n E_X8_seat (by rfl) dX8_seat_37 ?_
      refine qm_get E_X8_seat rfl 23 (by decide) q1680 (v := .ref (M.2.2.2 23)) rfl dX8_seat_38 ?_
      refine qm_aload_n E_X8_seat (by rfl) dX8_seat_41 ?_
      refine qm_get E_X8_seat rfl 22 (by decide) q1679 (v := .int (S.1 22)) rfl dX8_seat_42 ?_
      refine qm_iload_n E_X8_seat (by rfl) dX8_seat_45 ?_
      obtain ⟨o5, h⟩ := h
      refine qm_iast E_X8_seat 23 (by decide) rfl o5 dX8_seat_46 ?_
      refine qm_aload_n E_X8_seat (by rfl) dX8_seat_47 ?_
      refine qm_dup E_X8_seat rfl dX8_seat_48 ?_
      refine qm_get E_X8_seat rfl 22 (by decide) q1679 (v := .int (S.1 22)) rfl dX8_seat_49 ?_
      refine qm_iconst E_X8_seat 1 (by decide) dX8_seat_52 ?_
      refine qm_iadd E_X8_seat dX8_seat_53 ?_
      refine qm_put E_X8_seat rfl 22 (by decide) q1679 rfl rfl rfl (qm_set22) dX8_seat_54 ?_
      refine qm_aload_n E_X8_seat (by rfl) dX8_seat_57 ?_
      refine qm_get E_X8_seat rfl 22 (by decide) q1679 (v := .int ((S.1 22) + 1)) rfl dX8_seat_58 ?_
      refine qm_iconst E_X8_seat 1 (by decide) dX8_seat_61 ?_
      refine qm_isub E_X8_seat dX8_seat_62 ?_
      exact qm_iret E_X8_seat rfl dX8_seat_63 ⟨_, rfl, h⟩
    · have h := h.2 c4
      refine qm_iconst E_X8_seat 0 (by decide) dX8_seat_35 ?_
      exact qm_iret E_X8_seat rfl dX8_seat_36 ⟨_, rfl, h⟩
  refine qm_if_ne E_X8_seat 12 dX8_seat_5 (by decide) (fun (c1 : ¬ (f_X8_isSource a1) = 0) => ?_) (fun (c1 : (f_X8_isSource a1) = 0) => ?_)
  · refine qm_aload_n E_X8_seat (by rfl) dX8_seat_12 ?_
    refine qm_get E_X8_seat rfl 22 (by decide) q1679 (v := .int (S.1 22)) rfl dX8_seat_13 ?_
    refine qm_iconst E_X8_seat 3 (by decide) dX8_seat_16 ?_
    refine qm_icmp_ne E_X8_seat 24 dX8_seat_17 (by decide) (fun (c2 : ¬ (S.1 22) = 3) => ?_) (fun (c2 : (S.1 22) = 3) => ?_)
    · refine qm_iconst E_X8_seat 0 (by decide) dX8_seat_24 ?_
      exact Jv3 ((0 : Int32)) (by rw [if_neg c1, if_neg c2])
    · refine qm_iconst E_X8_seat 2 (by decide) dX8_seat_20 ?_
      refine qm_goto E_X8_seat 25 dX8_seat_21 (by decide) ?_
      exact Jv3 ((2 : Int32)) (by rw [if_neg c1, if_pos c2])
  · refine qm_iconst E_X8_seat 1 (by decide) dX8_seat_8 ?_
    refine qm_goto E_X8_seat 25 dX8_seat_9 (by decide) ?_
    exact Jv3 ((1 : Int32)) (by rw [if_pos c1])
def I_X8_isSeat : qh_I := (yX8_isSeat, cX8_isSeat, 2, (Option.some Jvm.ClassFile.FieldType.boolean), [])
theorem E_X8_isSeat : I_X8_isSeat.2.1 = cX8_isSeat := rfl
theorem M_X8_isSeat : qh_M I_X8_isSeat 1 := ⟨by decide, by decide, by decide +kernel, q95, q2088, by decide⟩
def f_X8_isSeat (a1 : Int32) (S : qm_S) : Int32 := f_X8_in a1 0 ((S.1 22) - 1)
theorem z_X8_isSeat (a1 : Int32) (S : qm_S) : (f_X8_isSeat a1 S) = 0 ∨ (f_X8_isSeat a1 S) = 1 := (z_X8_in a1 0 ((S.1 22) - 1))
set_option maxHeartbeats 4000000 in
theorem C_X8_isSeat {M : qm_G} {d : Nat} (a1 : Int32) (S : qm_S) (Q : Option Value → qm_S → Prop) (hq : Q (some (.int (f_X8_isSeat a1 S))) S) : qm_C M (d + 1) I_X8_isSeat [.ref M.2.2.1, .int a1] S Q := by
  refine qm_C.of (by decide) rfl (ls := [some (.ref M.2.2.1), some (.int a1)]) rfl (Nat.le_of_ble_eq_true rfl) (qm_ct rfl) ?_
  unfold f_X8_isSeat at hq
  refine qm_iload_n E_X8_isSeat (by rfl) dX8_isSeat_0 ?_
  refine qm_iconst E_X8_isSeat 0 (by decide) dX8_isSeat_1 ?_
  refine qm_aload_n E_X8_isSeat (by rfl) dX8_isSeat_2 ?_
  refine qm_get E_X8_isSeat rfl 22 (by decide) q1679 (v := .int (S.1 22)) rfl dX8_isSeat_3 ?_
  refine qm_iconst E_X8_isSeat 1 (by decide) dX8_isSeat_6 ?_
  refine qm_isub E_X8_isSeat dX8_isSeat_7 ?_
  refine qm_callS (As := [.int a1, .int 0, .int ((S.1 22) - 1)]) (rest := []) E_X8_isSeat rfl M_X8_in rfl q1951 q1952 rfl rfl (Nat.le_of_ble_eq_true rfl) dX8_isSeat_8 (C_X8_in (d := d) a1 0 ((S.1 22) - 1) S _ ?_)
  exact qm_zret E_X8_isSeat rfl (qm_nb (z_X8_in a1 0 ((S.1 22) - 1))) dX8_isSeat_11 hq
def I_X8_isSeatColumn : qh_I := (yX8_isSeatColumn, cX8_isSeatColumn, 3, (Option.some Jvm.ClassFile.FieldType.boolean), [])
theorem E_X8_isSeatColumn : I_X8_isSeatColumn.2.1 = cX8_isSeatColumn := rfl
theorem M_X8_isSeatColumn : qh_M I_X8_isSeatColumn 2 := ⟨by decide, by decide, by decide +kernel, q95, q2084, by decide⟩
def f_X8_isSeatColumn (a1 a2 : Int32) (S : qm_S) : Int32 := if (f_X8_isSeat a1 S) = 0 then (0 : Int32) else if (f_X8_isColumn (S.2 23 a1.toNatClampNeg) a2) = 0 then (0 : Int32) else (1 : Int32)
def p_X8_isSeatColumn (a1 a2 : Int32) (S : qm_S) : Prop := ((f_X8_isSeat a1 S) = 0 → True) ∧ (¬ (f_X8_isSeat a1 S) = 0 → vp_in a1 (qm_len 23))
theorem z_X8_isSeatColumn (a1 a2 : Int32) (S : qm_S) : (f_X8_isSeatColumn a1 a2 S) = 0 ∨ (f_X8_isSeatColumn a1 a2 S) = 1 := (qm_zi (Or.inl rfl) (qm_zi (Or.inl rfl) (Or.inr rfl)))
set_option maxHeartbeats 4000000 in
theorem C_X8_isSeatColumn {M : qm_G} {d : Nat} (a1 a2 : Int32) (S : qm_S) (Q : Option Value → qm_S → Prop) (hp : p_X8_isSeatColumn a1 a2 S) (hq : Q (some (.int (f_X8_isSeatColumn a1 a2 S))) S) : qm_C M (d + 2) I_X8_isSeatColumn [.ref M.2.2.1, .int a1, .int a2] S Q := by
  refine qm_C.of (by decide) rfl (ls := [some (.ref M.2.2.1), some (.int a1), some (.int a2)]) rfl (Nat.le_of_ble_eq_true rfl) (qm_ct rfl) ?_
  have h := hp
  unfold p_X8_isSeatColumn at h
  unfold f_X8_isSeatColumn at hq
  refine qm_aload_n E_X8_isSeatColumn (by rfl) dX8_isSeatColumn_0 ?_
  refine qm_iload_n E_X8_isSeatColumn (by rfl) dX8_isSeatColumn_1 ?_
  refine qm_callV (As := [.int a1]) (rest := []) E_X8_isSeatColumn rfl M_X8_isSeat rfl q2085 q2087 qs47 rfl rfl rfl (Nat.le_of_ble_eq_true rfl) dX8_isSeatColumn_2 (C_X8_isSeat (d := d) a1 S _ ?_)
  refine qm_if_eq E_X8_isSeatColumn 25 dX8_isSeatColumn_5 (by decide) (fun (c1 : (f_X8_isSeat a1 S) = 0) => ?_) (fun (c1 : ¬ (f_X8_isSeat a1 S) = 0) => ?_)
  · have h := h.1 c1
    rw [if_pos c1] at hq
    refine qm_iconst E_X8_isSeatColumn 0 (by decide) dX8_isSeatColumn_25 ?_
    exact qm_zret E_X8_isSeatColumn rfl (qm_nb (Or.inl rfl)) dX8_isSeatColumn_26 hq
  · have h := h.2 c1
    rw [if_neg c1] at hq
    refine qm_aload_n E_X8_isSeatColumn (by rfl) dX8_isSeatColumn_8 ?_
    refine qm_get E_X8_isSeatColumn rfl 23 (by decide) q1680 (v := .ref (M.2.2.2 23)) rfl dX8_isSeatColumn_9 ?_
    refine qm_iload_n E_X8_isSeatColumn (by rfl) dX8_isSeatColumn_12 ?_
    have o2 := h
    refine qm_iald E_X8_isSeatColumn 23 (by decide) rfl o2 dX8_isSeatColumn_13 ?_
    refine qm_iload_n E_X8_isSeatColumn (by rfl) dX8_isSeatColumn_14 ?_
    refine qm_callS (As := [.int (S.2 23 a1.toNatClampNeg), .int a2]) (rest := []) E_X8_isSeatColumn rfl M_X8_isColumn rfl q1961 q1962 rfl rfl (Nat.le_of_ble_eq_true rfl) dX8_isSeatColumn_15 (C_X8_isColumn (d := d) (S.2 23 a1.toNatClampNeg) a2 S _ ?_)
    refine qm_if_eq E_X8_isSeatColumn 25 dX8_isSeatColumn_18 (by decide) (fun (c3 : (f_X8_isColumn (S.2 23 a1.toNatClampNeg) a2) = 0) => ?_) (fun (c3 : ¬ (f_X8_isColumn (S.2 23 a1.toNatClampNeg) a2) = 0) => ?_)
    · rw [if_pos c3] at hq
      refine qm_iconst E_X8_isSeatColumn 0 (by decide) dX8_isSeatColumn_25 ?_
      exact qm_zret E_X8_isSeatColumn rfl (qm_nb (Or.inl rfl)) dX8_isSeatColumn_26 hq
    · rw [if_neg c3] at hq
      refine qm_iconst E_X8_isSeatColumn 1 (by decide) dX8_isSeatColumn_21 ?_
      refine qm_goto E_X8_isSeatColumn 26 dX8_isSeatColumn_22 (by decide) ?_
      exact qm_zret E_X8_isSeatColumn rfl (qm_nb (Or.inr rfl)) dX8_isSeatColumn_26 hq
def I_X8_link : qh_I := (yX8_link, cX8_link, 5, (Option.some Jvm.ClassFile.FieldType.int), [])
theorem E_X8_link : I_X8_link.2.1 = cX8_link := rfl
theorem M_X8_link : qh_M I_X8_link 4 := ⟨by decide, by decide, by decide +kernel, q95, q2080, by decide⟩
def T_X8_link (a1 a2 a3 a4 : Int32) (S : qm_S) (K : Int32 → qm_S → Prop) : Prop := p_X8_isSeatColumn a1 a2 S ∧ (((f_X8_isSeatColumn a1 a2 S) = 0 → True) ∧ (¬ (f_X8_isSeatColumn a1 a2 S) = 0 → p_X8_isSeatColumn a3 a4 S)) ∧ (((if (f_X8_isSeatColumn a1 a2 S) = 0 then (1 : Int32) else if (f_X8_isSeatColumn a3 a4 S) = 0 then (1 : Int32) else if a1 < a3 then if (S.1 24) = 3 then (3 : Int32) else (0 : Int32) else (2 : Int32))) ≤ 0 → vp_in (S.1 24) (qm_len 25) ∧ vp_in (S.1 24) (qm_len 26) ∧ vp_in (S.1 24) (qm_len 27) ∧ vp_in (S.1 24) (qm_len 28) ∧ K ((S.1 24) + 1) ((upd (upd S.1 0 ((if (f_X8_isSeatColumn a1 a2 S) = 0 then (1 : Int32) else if (f_X8_isSeatColumn a3 a4 S) = 0 then (1 : Int32) else if a1 < a3 then if (S.1 24) = 3 then (3 : Int32) else (0 : Int32) else (2 : Int32)))) 24 ((S.1 24) + 1), qm_uA (qm_uA (qm_uA (qm_uA S.2 25 (upd (S.2 25) (S.1 24).toNatClampNeg a1)) 26 (upd (S.2 26) (S.1 24).toNatClampNeg a2)) 27 (upd (S.2 27) (S.1 24).toNatClampNeg a3)) 28 (upd (S.2 28) (S.1 24).toNatClampNeg a4)))) ∧ (¬ ((if (f_X8_isSeatColumn a1 a2 S) = 0 then (1 : Int32) else if (f_X8_isSeatColumn a3 a4 S) = 0 then (1 : Int32) else if a1 < a3 then if (S.1 24) = 3 then (3 : Int32) else (0 : Int32) else (2 : Int32))) ≤ 0 → K 0 ((upd S.1 0 ((if (f_X8_isSeatColumn a1 a2 S) = 0 then (1 : Int32) else if (f_X8_isSeatColumn a3 a4 S) = 0 then (1 : Int32) else if a1 < a3 then if (S.1 24) = 3 then (3 : Int32) else (0 : Int32) else (2 : Int32))), S.2)))
set_option maxHeartbeats 4000000 in
theorem C_X8_link {M : qm_G} {d : Nat} (a1 a2 a3 a4 : Int32) (S : qm_S) (K : Int32 → qm_S → Prop) (h : T_X8_link a1 a2 a3 a4 S K) : qm_C M (d + 3) I_X8_link [.ref M.2.2.1, .int a1, .int a2, .int a3, .int a4] S (fun v S' => ∃ r, v = some (.int r) ∧ K r S') := by
  refine qm_C.of (by decide) rfl (ls := [some (.ref M.2.2.1), some (.int a1), some (.int a2), some (.int a3), some (.int a4)]) rfl (Nat.le_of_ble_eq_true rfl) (qm_ct rfl) ?_
  unfold T_X8_link at h
  refine qm_aload_n E_X8_link (by rfl) dX8_link_0 ?_
  refine qm_aload_n E_X8_link (by rfl) dX8_link_1 ?_
  refine qm_iload_n E_X8_link (by rfl) dX8_link_2 ?_
  refine qm_iload_n E_X8_link (by rfl) dX8_link_3 ?_
  obtain ⟨o1, h⟩ := h
  refine qm_callV (As := [.int a1, .int a2]) (rest := [.ref M.2.2.1]) E_X8_link rfl M_X8_isSeatColumn rfl q2081 q2083 qs46 rfl rfl rfl (Nat.le_of_ble_eq_true rfl) dX8_link_4 (C_X8_isSeatColumn (d := d) a1 a2 S _ o1 ?_)
  obtain ⟨h9, h⟩ := h
  have Jv7 : ∀ v7 : Int32, v7 = (if (f_X8_isSeatColumn a1 a2 S) = 0 then (1 : Int32) else if (f_X8_isSeatColumn a3 a4 S) = 0 then (1 : Int32) else if a1 < a3 then if (S.1 24) = 3 then (3 : Int32) else (0 : Int32) else (2 : Int32)) → qm_wp M (d + 3) I_X8_link 46 [some (.ref M.2.2.1), some (.int a1), some (.int a2), some (.int a3), some (.int a4)] [.int v7, .ref M.2.2.1] S (fun v S' => ∃ r, v = some (.int r) ∧ K r S') := by
    rintro _ rfl
    refine qm_put E_X8_link rfl 0 (by decide) q1657 rfl rfl rfl (qm_set0) dX8_link_46 ?_
    refine qm_aload_n E_X8_link (by rfl) dX8_link_49 ?_
    refine qm_get E_X8_link rfl 0 (by decide) q1657 (v := .int ((if (f_X8_isSeatColumn a1 a2 S) = 0 then (1 : Int32) else if (f_X8_isSeatColumn a3 a4 S) = 0 then (1 : Int32) else if a1 < a3 then if (S.1 24) = 3 then (3 : Int32) else (0 : Int32) else (2 : Int32)))) rfl dX8_link_50 ?_
    refine qm_if_le E_X8_link 58 dX8_link_53 (by decide) (fun (c8 : ((if (f_X8_isSeatColumn a1 a2 S) = 0 then (1 : Int32) else if (f_X8_isSeatColumn a3 a4 S) = 0 then (1 : Int32) else if a1 < a3 then if (S.1 24) = 3 then (3 : Int32) else (0 : Int32) else (2 : Int32))) ≤ 0) => ?_) (fun (c8 : ¬ ((if (f_X8_isSeatColumn a1 a2 S) = 0 then (1 : Int32) else if (f_X8_isSeatColumn a3 a4 S) = 0 then (1 : Int32) else if a1 < a3 then if (S.1 24) = 3 then (3 : Int32) else (0 : Int32) else (2 : Int32))) ≤ 0) => ?_)
    · have h := h.1 c8
      refine qm_aload_n E_X8_link (by rfl) dX8_link_58 ?_
      refine qm_get E_X8_link rfl 25 (by decide) q1682 (v := .ref (M.2.2.2 25)) rfl dX8_link_59 ?_
      refine qm_aload_n E_X8_link (by rfl) dX8_link_62 ?_
      refine qm_get E_X8_link rfl 24 (by decide) q1681 (v := .int (S.1 24)) rfl dX8_link_63 ?_
      refine qm_iload_n E_X8_link (by rfl) dX8_link_66 ?_
      obtain ⟨o9, h⟩ := h
      refine qm_iast E_X8_link 25 (by decide) rfl o9 dX8_link_67 ?_
      refine qm_aload_n E_X8_link (by rfl) dX8_link_68 ?_
      refine qm_get E_X8_link rfl 26 (by decide) q1683 (v := .ref (M.2.2.2 26)) rfl dX8_link_69 ?_
      refine qm_aload_n E_X8_link (by rfl) dX8_link_72 ?_
      refine qm_get E_X8_link rfl 24 (by decide) q1681 (v := .int (S.1 24)) rfl dX8_link_73 ?_
      refine qm_iload_n E_X8_link (by rfl) dX8_link_76 ?_
      obtain ⟨o10, h⟩ := h
      refine qm_iast E_X8_link 26 (by decide) rfl o10 dX8_link_77 ?_
      refine qm_aload_n E_X8_link (by rfl) dX8_link_78 ?_
      refine qm_get E_X8_link rfl 27 (by decide) q1684 (v := .ref (M.2.2.2 27)) rfl dX8_link_79 ?_
      refine qm_aload_n E_X8_link (by rfl) dX8_link_82 ?_
      refine qm_get E_X8_link rfl 24 (by decide) q1681 (v := .int (S.1 24)) rfl dX8_link_83 ?_
      refine qm_iload_n E_X8_link (by rfl) dX8_link_86 ?_
      obtain ⟨o11, h⟩ := h
      refine qm_iast E_X8_link 27 (by decide) rfl o11 dX8_link_87 ?_
      refine qm_aload_n E_X8_link (by rfl) dX8_link_88 ?_
      refine qm_get E_X8_link rfl 28 (by decide) q1685 (v := .ref (M.2.2.2 28)) rfl dX8_link_89 ?_
      refine qm_aload_n E_X8_link (by rfl) dX8_link_92 ?_
      refine qm_get E_X8_link rfl 24 (by decide) q1681 (v := .int (S.1 24)) rfl dX8_link_93 ?_
      refine qm_iload E_X8_link (by rfl) dX8_link_96 ?_
      obtain ⟨o12, h⟩ := h
      refine qm_iast E_X8_link 28 (by decide) rfl o12 dX8_link_98 ?_
      refine qm_aload_n E_X8_link (by rfl) dX8_link_99 ?_
      refine qm_dup E_X8_link rfl dX8_link_100 ?_
      refine qm_get E_X8_link rfl 24 (by decide) q1681 (v := .int (S.1 24)) rfl dX8_link_101 ?_
      refine qm_iconst E_X8_link 1 (by decide) dX8_link_104 ?_
      refine qm_iadd E_X8_link dX8_link_105 ?_
      refine qm_put E_X8_link rfl 24 (by decide) q1681 rfl rfl rfl (qm_set24) dX8_link_106 ?_
      refine qm_aload_n E_X8_link (by rfl) dX8_link_109 ?_
      refine qm_get E_X8_link rfl 24 (by decide) q1681 (v := .int ((S.1 24) + 1)) rfl dX8_link_110 ?_
      exact qm_iret E_X8_link rfl dX8_link_113 ⟨_, rfl, h⟩
    · have h := h.2 c8
      refine qm_iconst E_X8_link 0 (by decide) dX8_link_56 ?_
      exact qm_iret E_X8_link rfl dX8_link_57 ⟨_, rfl, h⟩
  have h := h9
  refine qm_if_eq E_X8_link 20 dX8_link_7 (by decide) (fun (c2 : (f_X8_isSeatColumn a1 a2 S) = 0) => ?_) (fun (c2 : ¬ (f_X8_isSeatColumn a1 a2 S) = 0) => ?_)
  · have h := h.1 c2
    refine qm_iconst E_X8_link 1 (by decide) dX8_link_20 ?_
    refine qm_goto E_X8_link 46 dX8_link_21 (by decide) ?_
    exact Jv7 ((1 : Int32)) (by rw [if_pos c2])
  · have h := h.2 c2
    refine qm_aload_n E_X8_link (by rfl) dX8_link_10 ?_
    refine qm_iload_n E_X8_link (by rfl) dX8_link_11 ?_
    refine qm_iload E_X8_link (by rfl) dX8_link_12 ?_
    have o3 := h
    refine qm_callV (As := [.int a3, .int a4]) (rest := [.ref M.2.2.1]) E_X8_link rfl M_X8_isSeatColumn rfl q2081 q2083 qs46 rfl rfl rfl (Nat.le_of_ble_eq_true rfl) dX8_link_14 (C_X8_isSeatColumn (d := d) a3 a4 S _ o3 ?_)
    refine qm_if_ne E_X8_link 24 dX8_link_17 (by decide) (fun (c4 : ¬ (f_X8_isSeatColumn a3 a4 S) = 0) => ?_) (fun (c4 : (f_X8_isSeatColumn a3 a4 S) = 0) => ?_)
    · refine qm_iload_n E_X8_link (by rfl) dX8_link_24 ?_
      refine qm_iload_n E_X8_link (by rfl) dX8_link_25 ?_
      refine qm_icmp_gt E_X8_link 33 dX8_link_26 (by decide) (fun (c5 : a1 < a3) => ?_) (fun (c5 : ¬ a1 < a3) => ?_)
      · refine qm_aload_n E_X8_link (by rfl) dX8_link_33 ?_
        refine qm_get E_X8_link rfl 24 (by decide) q1681 (v := .int (S.1 24)) rfl dX8_link_34 ?_
        refine qm_iconst E_X8_link 3 (by decide) dX8_link_37 ?_
        refine qm_icmp_ne E_X8_link 45 dX8_link_38 (by decide) (fun (c6 : ¬ (S.1 24) = 3) => ?_) (fun (c6 : (S.1 24) = 3) => ?_)
        · refine qm_iconst E_X8_link 0 (by decide) dX8_link_45 ?_
          exact Jv7 ((0 : Int32)) (by rw [if_neg c2, if_neg c4, if_pos c5, if_neg c6])
        · refine qm_iconst E_X8_link 3 (by decide) dX8_link_41 ?_
          refine qm_goto E_X8_link 46 dX8_link_42 (by decide) ?_
          exact Jv7 ((3 : Int32)) (by rw [if_neg c2, if_neg c4, if_pos c5, if_pos c6])
      · refine qm_iconst E_X8_link 2 (by decide) dX8_link_29 ?_
        refine qm_goto E_X8_link 46 dX8_link_30 (by decide) ?_
        exact Jv7 ((2 : Int32)) (by rw [if_neg c2, if_neg c4, if_neg c5])
    · refine qm_iconst E_X8_link 1 (by decide) dX8_link_20 ?_
      refine qm_goto E_X8_link 46 dX8_link_21 (by decide) ?_
      exact Jv7 ((1 : Int32)) (by rw [if_neg c2, if_pos c4])
def I_X8_where : qh_I := (yX8_where, cX8_where, 6, (Option.some Jvm.ClassFile.FieldType.int), [])
theorem E_X8_where : I_X8_where.2.1 = cX8_where := rfl
theorem M_X8_where : qh_M I_X8_where 4 := ⟨by decide, by decide, by decide +kernel, q95, q2092, by decide⟩
def T_X8_where (a1 a2 a3 a4 : Int32) (S : qm_S) (K : Int32 → qm_S → Prop) : Prop := p_X8_isSeatColumn a1 a2 S ∧ (((if (f_X8_isSeatColumn a1 a2 S) = 0 then (1 : Int32) else if ((if (f_X8_in a3 0 4) = 0 then (0 : Int32) else if 3 ≤ a3 then if a4 = 0 then (1 : Int32) else (0 : Int32) else if (f_X8_isNumber a4) = 0 then (0 : Int32) else (1 : Int32))) = 0 then (2 : Int32) else if (S.1 29) = 4 then (3 : Int32) else (0 : Int32))) ≤ 0 → vp_in (S.1 29) (qm_len 30) ∧ vp_in (S.1 29) (qm_len 31) ∧ vp_in (S.1 29) (qm_len 32) ∧ vp_in (S.1 29) (qm_len 33) ∧ K ((S.1 29) + 1) ((upd (upd S.1 0 ((if (f_X8_isSeatColumn a1 a2 S) = 0 then (1 : Int32) else if ((if (f_X8_in a3 0 4) = 0 then (0 : Int32) else if 3 ≤ a3 then if a4 = 0 then (1 : Int32) else (0 : Int32) else if (f_X8_isNumber a4) = 0 then (0 : Int32) else (1 : Int32))) = 0 then (2 : Int32) else if (S.1 29) = 4 then (3 : Int32) else (0 : Int32)))) 29 ((S.1 29) + 1), qm_uA (qm_uA (qm_uA (qm_uA S.2 30 (upd (S.2 30) (S.1 29).toNatClampNeg a1)) 31 (upd (S.2 31) (S.1 29).toNatClampNeg a2)) 32 (upd (S.2 32) (S.1 29).toNatClampNeg a3)) 33 (upd (S.2 33) (S.1 29).toNatClampNeg a4)))) ∧ (¬ ((if (f_X8_isSeatColumn a1 a2 S) = 0 then (1 : Int32) else if ((if (f_X8_in a3 0 4) = 0 then (0 : Int32) else if 3 ≤ a3 then if a4 = 0 then (1 : Int32) else (0 : Int32) else if (f_X8_isNumber a4) = 0 then (0 : Int32) else (1 : Int32))) = 0 then (2 : Int32) else if (S.1 29) = 4 then (3 : Int32) else (0 : Int32))) ≤ 0 → K 0 ((upd S.1 0 ((if (f_X8_isSeatColumn a1 a2 S) = 0 then (1 : Int32) else if ((if (f_X8_in a3 0 4) = 0 then (0 : Int32) else if 3 ≤ a3 then if a4 = 0 then (1 : Int32) else (0 : Int32) else if (f_X8_isNumber a4) = 0 then (0 : Int32) else (1 : Int32))) = 0 then (2 : Int32) else if (S.1 29) = 4 then (3 : Int32) else (0 : Int32))), S.2)))
set_option maxHeartbeats 4000000 in
theorem C_X8_where {M : qm_G} {d : Nat} (a1 a2 a3 a4 : Int32) (S : qm_S) (K : Int32 → qm_S → Prop) (h : T_X8_where a1 a2 a3 a4 S K) : qm_C M (d + 3) I_X8_where [.ref M.2.2.1, .int a1, .int a2, .int a3, .int a4] S (fun v S' => ∃ r, v = some (.int r) ∧ K r S') := by
  refine qm_C.of (by decide) rfl (ls := [some (.ref M.2.2.1), some (.int a1), some (.int a2), some (.int a3), some (.int a4), none]) rfl (Nat.le_of_ble_eq_true rfl) (qm_ct rfl) ?_
  unfold T_X8_where at h
  refine qm_iload_n E_X8_where (by rfl) dX8_where_0 ?_
  refine qm_iconst E_X8_where 0 (by decide) dX8_where_1 ?_
  refine qm_iconst E_X8_where 4 (by decide) dX8_where_2 ?_
  refine qm_callS (As := [.int a3, .int 0, .int 4]) (rest := []) E_X8_where rfl M_X8_in rfl q1951 q1952 rfl rfl (Nat.le_of_ble_eq_true rfl) dX8_where_3 (C_X8_in (d := d + 2) a3 0 4 S _ ?_)
  have Jv5 : ∀ v5 : Int32, v5 = (if (f_X8_in a3 0 4) = 0 then (0 : Int32) else if 3 ≤ a3 then if a4 = 0 then (1 : Int32) else (0 : Int32) else if (f_X8_isNumber a4) = 0 then (0 : Int32) else (1 : Int32)) → qm_wp M (d + 3) I_X8_where 35 [some (.ref M.2.2.1), some (.int a1), some (.int a2), some (.int a3), some (.int a4), none] [.int v5] S (fun v S' => ∃ r, v = some (.int r) ∧ K r S') := by
    rintro _ rfl
    refine qm_istore E_X8_where (by decide) dX8_where_35 ?_
    refine qm_aload_n E_X8_where (by rfl) dX8_where_37 ?_
    refine qm_aload_n E_X8_where (by rfl) dX8_where_38 ?_
    refine qm_iload_n E_X8_where (by rfl) dX8_where_39 ?_
    refine qm_iload_n E_X8_where (by rfl) dX8_where_40 ?_
    obtain ⟨o6, h⟩ := h
    refine qm_callV (As := [.int a1, .int a2]) (rest := [.ref M.2.2.1]) E_X8_where rfl M_X8_isSeatColumn rfl q2081 q2083 qs46 rfl rfl rfl (Nat.le_of_ble_eq_true rfl) dX8_where_41 (C_X8_isSeatColumn (d := d) a1 a2 S _ o6 ?_)
    have Jv10 : ∀ v10 : Int32, v10 = (if (f_X8_isSeatColumn a1 a2 S) = 0 then (1 : Int32) else if ((if (f_X8_in a3 0 4) = 0 then (0 : Int32) else if 3 ≤ a3 then if a4 = 0 then (1 : Int32) else (0 : Int32) else if (f_X8_isNumber a4) = 0 then (0 : Int32) else (1 : Int32))) = 0 then (2 : Int32) else if (S.1 29) = 4 then (3 : Int32) else (0 : Int32)) → qm_wp M (d + 3) I_X8_where 73 [some (.ref M.2.2.1), some (.int a1), some (.int a2), some (.int a3), some (.int a4), some (.int ((if (f_X8_in a3 0 4) = 0 then (0 : Int32) else if 3 ≤ a3 then if a4 = 0 then (1 : Int32) else (0 : Int32) else if (f_X8_isNumber a4) = 0 then (0 : Int32) else (1 : Int32))))] [.int v10, .ref M.2.2.1] S (fun v S' => ∃ r, v = some (.int r) ∧ K r S') := by
      rintro _ rfl
      refine qm_put E_X8_where rfl 0 (by decide) q1657 rfl rfl rfl (qm_set0) dX8_where_73 ?_
      refine qm_aload_n E_X8_where (by rfl) dX8_where_76 ?_
      refine qm_get E_X8_where rfl 0 (by decide) q1657 (v := .int ((if (f_X8_isSeatColumn a1 a2 S) = 0 then (1 : Int32) else if ((if (f_X8_in a3 0 4) = 0 then (0 : Int32) else if 3 ≤ a3 then if a4 = 0 then (1 : Int32) else (0 : Int32) else if (f_X8_isNumber a4) = 0 then (0 : Int32) else (1 : Int32))) = 0 then (2 : Int32) else if (S.1 29) = 4 then (3 : Int32) else (0 : Int32)))) rfl dX8_where_77 ?_
      refine qm_if_le E_X8_where 85 dX8_where_80 (by decide) (fun (c11 : ((if (f_X8_isSeatColumn a1 a2 S) = 0 then (1 : Int32) else if ((if (f_X8_in a3 0 4) = 0 then (0 : Int32) else if 3 ≤ a3 then if a4 = 0 then (1 : Int32) else (0 : Int32) else if (f_X8_isNumber a4) = 0 then (0 : Int32) else (1 : Int32))) = 0 then (2 : Int32) else if (S.1 29) = 4 then (3 : Int32) else (0 : Int32))) ≤ 0) => ?_) (fun (c11 : ¬ ((if (f_X8_isSeatColumn a1 a2 S) = 0 then (1 : Int32) else if ((if (f_X8_in a3 0 4) = 0 then (0 : Int32) else if 3 ≤ a3 then if a4 = 0 then (1 : Int32) else (0 : Int32) else if (f_X8_isNumber a4) = 0 then (0 : Int32) else (1 : Int32))) = 0 then (2 : Int32) else if (S.1 29) = 4 then (3 : Int32) else (0 : Int32))) ≤ 0) => ?_)
      · have h := h.1 c11
        refine qm_aload_n E_X8_where (by rfl) dX8_where_85 ?_
        refine qm_get E_X8_where rfl 30 (by decide) q1687 (v := .ref (M.2.2.2 30)) rfl dX8_where_86 ?_
        refine qm_aload_n E_X8_where (by rfl) dX8_where_89 ?_
        refine qm_get E_X8_where rfl 29 (by decide) q1686 (v := .int (S.1 29)) rfl dX8_where_90 ?_
        refine qm_iload_n E_X8_where (by rfl) dX8_where_93 ?_
        obtain ⟨o12, h⟩ := h
        refine qm_iast E_X8_where 30 (by decide) rfl o12 dX8_where_94 ?_
        refine qm_aload_n E_X8_where (by rfl) dX8_where_95 ?_
        refine qm_get E_X8_where rfl 31 (by decide) q1688 (v := .ref (M.2.2.2 31)) rfl dX8_where_96 ?_
        refine qm_aload_n E_X8_where (by rfl) dX8_where_99 ?_
        refine qm_get E_X8_where rfl 29 (by decide) q1686 (v := .int (S.1 29)) rfl dX8_where_100 ?_
        refine qm_iload_n E_X8_where (by rfl) dX8_where_103 ?_
        obtain ⟨o13, h⟩ := h
        refine qm_iast E_X8_where 31 (by decide) rfl o13 dX8_where_104 ?_
        refine qm_aload_n E_X8_where (by rfl) dX8_where_105 ?_
        refine qm_get E_X8_where rfl 32 (by decide) q1689 (v := .ref (M.2.2.2 32)) rfl dX8_where_106 ?_
        refine qm_aload_n E_X8_where (by rfl) dX8_where_109 ?_
        refine qm_get E_X8_where rfl 29 (by decide) q1686 (v := .int (S.1 29)) rfl dX8_where_110 ?_
        refine qm_iload_n E_X8_where (by rfl) dX8_where_113 ?_
        obtain ⟨o14, h⟩ := h
        refine qm_iast E_X8_where 32 (by decide) rfl o14 dX8_where_114 ?_
        refine qm_aload_n E_X8_where (by rfl) dX8_where_115 ?_
        refine qm_get E_X8_where rfl 33 (by decide) q1690 (v := .ref (M.2.2.2 33)) rfl dX8_where_116 ?_
        refine qm_aload_n E_X8_where (by rfl) dX8_where_119 ?_
        refine qm_get E_X8_where rfl 29 (by decide) q1686 (v := .int (S.1 29)) rfl dX8_where_120 ?_
        refine qm_iload E_X8_where (by rfl) dX8_where_123 ?_
        obtain ⟨o15, h⟩ := h
        refine qm_iast E_X8_where 33 (by decide) rfl o15 dX8_where_125 ?_
        refine qm_aload_n E_X8_where (by rfl) dX8_where_126 ?_
        refine qm_dup E_X8_where rfl dX8_where_127 ?_
        refine qm_get E_X8_where rfl 29 (by decide) q1686 (v := .int (S.1 29)) rfl dX8_where_128 ?_
        refine qm_iconst E_X8_where 1 (by decide) dX8_where_131 ?_
        refine qm_iadd E_X8_where dX8_where_132 ?_
        refine qm_put E_X8_where rfl 29 (by decide) q1686 rfl rfl rfl (qm_set29) dX8_where_133 ?_
        refine qm_aload_n E_X8_where (by rfl) dX8_where_136 ?_
        refine qm_get E_X8_where rfl 29 (by decide) q1686 (v := .int ((S.1 29) + 1)) rfl dX8_where_137 ?_
        exact qm_iret E_X8_where rfl dX8_where_140 ⟨_, rfl, h⟩
      · have h := h.2 c11
        refine qm_iconst E_X8_where 0 (by decide) dX8_where_83 ?_
        exact qm_iret E_X8_where rfl dX8_where_84 ⟨_, rfl, h⟩
    refine qm_if_ne E_X8_where 51 dX8_where_44 (by decide) (fun (c7 : ¬ (f_X8_isSeatColumn a1 a2 S) = 0) => ?_) (fun (c7 : (f_X8_isSeatColumn a1 a2 S) = 0) => ?_)
    · refine qm_iload E_X8_where (by rfl) dX8_where_51 ?_
      refine qm_if_ne E_X8_where 60 dX8_where_53 (by decide) (fun (c8 : ¬ ((if (f_X8_in a3 0 4) = 0 then (0 : Int32) else if 3 ≤ a3 then if a4 = 0 then (1 : Int32) else (0 : Int32) else if (f_X8_isNumber a4) = 0 then (0 : Int32) else (1 : Int32))) = 0) => ?_) (fun (c8 : ((if (f_X8_in a3 0 4) = 0 then (0 : Int32) else if 3 ≤ a3 then if a4 = 0 then (1 : Int32) else (0 : Int32) else if (f_X8_isNumber a4) = 0 then (0 : Int32) else (1 : Int32))) = 0) => ?_)
      · refine qm_aload_n E_X8_where (by rfl) dX8_where_60 ?_
        refine qm_get E_X8_where rfl 29 (by decide) q1686 (v := .int (S.1 29)) rfl dX8_where_61 ?_
        refine qm_iconst E_X8_where 4 (by decide) dX8_where_64 ?_
        refine qm_icmp_ne E_X8_where 72 dX8_where_65 (by decide) (fun (c9 : ¬ (S.1 29) = 4) => ?_) (fun (c9 : (S.1 29) = 4) => ?_)
        · refine qm_iconst E_X8_where 0 (by decide) dX8_where_72 ?_
          exact Jv10 ((0 : Int32)) (by rw [if_neg c7, if_neg c8, if_neg c9])
        · refine qm_iconst E_X8_where 3 (by decide) dX8_where_68 ?_
          refine qm_goto E_X8_where 73 dX8_where_69 (by decide) ?_
          exact Jv10 ((3 : Int32)) (by rw [if_neg c7, if_neg c8, if_pos c9])
      · refine qm_iconst E_X8_where 2 (by decide) dX8_where_56 ?_
        refine qm_goto E_X8_where 73 dX8_where_57 (by decide) ?_
        exact Jv10 ((2 : Int32)) (by rw [if_neg c7, if_pos c8])
    · refine qm_iconst E_X8_where 1 (by decide) dX8_where_47 ?_
      refine qm_goto E_X8_where 73 dX8_where_48 (by decide) ?_
      exact Jv10 ((1 : Int32)) (by rw [if_pos c7])
  refine qm_if_eq E_X8_where 34 dX8_where_6 (by decide) (fun (c1 : (f_X8_in a3 0 4) = 0) => ?_) (fun (c1 : ¬ (f_X8_in a3 0 4) = 0) => ?_)
  · refine qm_iconst E_X8_where 0 (by decide) dX8_where_34 ?_
    exact Jv5 ((0 : Int32)) (by rw [if_pos c1])
  · refine qm_iload_n E_X8_where (by rfl) dX8_where_9 ?_
    refine qm_iconst E_X8_where 3 (by decide) dX8_where_10 ?_
    refine qm_icmp_ge E_X8_where 25 dX8_where_11 (by decide) (fun (c2 : 3 ≤ a3) => ?_) (fun (c2 : ¬ 3 ≤ a3) => ?_)
    · refine qm_iload E_X8_where (by rfl) dX8_where_25 ?_
      refine qm_if_ne E_X8_where 34 dX8_where_27 (by decide) (fun (c3 : ¬ a4 = 0) => ?_) (fun (c3 : a4 = 0) => ?_)
      · refine qm_iconst E_X8_where 0 (by decide) dX8_where_34 ?_
        exact Jv5 ((0 : Int32)) (by rw [if_neg c1, if_pos c2, if_neg c3])
      · refine qm_iconst E_X8_where 1 (by decide) dX8_where_30 ?_
        refine qm_goto E_X8_where 35 dX8_where_31 (by decide) ?_
        exact Jv5 ((1 : Int32)) (by rw [if_neg c1, if_pos c2, if_pos c3])
    · refine qm_iload E_X8_where (by rfl) dX8_where_14 ?_
      refine qm_callS (As := [.int a4]) (rest := []) E_X8_where rfl M_X8_isNumber rfl q1967 q1968 rfl rfl (Nat.le_of_ble_eq_true rfl) dX8_where_16 (C_X8_isNumber (d := d + 1) a4 S _ ?_)
      refine qm_if_eq E_X8_where 34 dX8_where_19 (by decide) (fun (c4 : (f_X8_isNumber a4) = 0) => ?_) (fun (c4 : ¬ (f_X8_isNumber a4) = 0) => ?_)
      · refine qm_iconst E_X8_where 0 (by decide) dX8_where_34 ?_
        exact Jv5 ((0 : Int32)) (by rw [if_neg c1, if_neg c2, if_pos c4])
      · refine qm_goto E_X8_where 30 dX8_where_22 (by decide) ?_
        refine qm_iconst E_X8_where 1 (by decide) dX8_where_30 ?_
        refine qm_goto E_X8_where 35 dX8_where_31 (by decide) ?_
        exact Jv5 ((1 : Int32)) (by rw [if_neg c1, if_neg c2, if_neg c4])
def I_X8_out : qh_I := (yX8_out, cX8_out, 3, (Option.some Jvm.ClassFile.FieldType.int), [])
theorem E_X8_out : I_X8_out.2.1 = cX8_out := rfl
theorem M_X8_out : qh_M I_X8_out 2 := ⟨by decide, by decide, by decide +kernel, q95, q2096, by decide⟩
def T_X8_out (a1 a2 : Int32) (S : qm_S) (K : Int32 → qm_S → Prop) : Prop := p_X8_isSeatColumn a1 a2 S ∧ (((if (f_X8_isSeatColumn a1 a2 S) = 0 then (1 : Int32) else if (S.1 34) = 3 then (2 : Int32) else (0 : Int32))) ≤ 0 → vp_in (S.1 34) (qm_len 35) ∧ vp_in (S.1 34) (qm_len 36) ∧ K ((S.1 34) + 1) ((upd (upd S.1 0 ((if (f_X8_isSeatColumn a1 a2 S) = 0 then (1 : Int32) else if (S.1 34) = 3 then (2 : Int32) else (0 : Int32)))) 34 ((S.1 34) + 1), qm_uA (qm_uA S.2 35 (upd (S.2 35) (S.1 34).toNatClampNeg a1)) 36 (upd (S.2 36) (S.1 34).toNatClampNeg a2)))) ∧ (¬ ((if (f_X8_isSeatColumn a1 a2 S) = 0 then (1 : Int32) else if (S.1 34) = 3 then (2 : Int32) else (0 : Int32))) ≤ 0 → K 0 ((upd S.1 0 ((if (f_X8_isSeatColumn a1 a2 S) = 0 then (1 : Int32) else if (S.1 34) = 3 then (2 : Int32) else (0 : Int32))), S.2)))
set_option maxHeartbeats 4000000 in
theorem C_X8_out {M : qm_G} {d : Nat} (a1 a2 : Int32) (S : qm_S) (K : Int32 → qm_S → Prop) (h : T_X8_out a1 a2 S K) : qm_C M (d + 3) I_X8_out [.ref M.2.2.1, .int a1, .int a2] S (fun v S' => ∃ r, v = some (.int r) ∧ K r S') := by
  refine qm_C.of (by decide) rfl (ls := [some (.ref M.2.2.1), some (.int a1), some (.int a2)]) rfl (Nat.le_of_ble_eq_true rfl) (qm_ct rfl) ?_
  unfold T_X8_out at h
  refine qm_aload_n E_X8_out (by rfl) dX8_out_0 ?_
  refine qm_aload_n E_X8_out (by rfl) dX8_out_1 ?_
  refine qm_iload_n E_X8_out (by rfl) dX8_out_2 ?_
  refine qm_iload_n E_X8_out (by rfl) dX8_out_3 ?_
  obtain ⟨o1, h⟩ := h
  refine qm_callV (As := [.int a1, .int a2]) (rest := [.ref M.2.2.1]) E_X8_out rfl M_X8_isSeatColumn rfl q2081 q2083 qs46 rfl rfl rfl (Nat.le_of_ble_eq_true rfl) dX8_out_4 (C_X8_isSeatColumn (d := d) a1 a2 S _ o1 ?_)
  have Jv4 : ∀ v4 : Int32, v4 = (if (f_X8_isSeatColumn a1 a2 S) = 0 then (1 : Int32) else if (S.1 34) = 3 then (2 : Int32) else (0 : Int32)) → qm_wp M (d + 3) I_X8_out 27 [some (.ref M.2.2.1), some (.int a1), some (.int a2)] [.int v4, .ref M.2.2.1] S (fun v S' => ∃ r, v = some (.int r) ∧ K r S') := by
    rintro _ rfl
    refine qm_put E_X8_out rfl 0 (by decide) q1657 rfl rfl rfl (qm_set0) dX8_out_27 ?_
    refine qm_aload_n E_X8_out (by rfl) dX8_out_30 ?_
    refine qm_get E_X8_out rfl 0 (by decide) q1657 (v := .int ((if (f_X8_isSeatColumn a1 a2 S) = 0 then (1 : Int32) else if (S.1 34) = 3 then (2 : Int32) else (0 : Int32)))) rfl dX8_out_31 ?_
    refine qm_if_le E_X8_out 39 dX8_out_34 (by decide) (fun (c5 : ((if (f_X8_isSeatColumn a1 a2 S) = 0 then (1 : Int32) else if (S.1 34) = 3 then (2 : Int32) else (0 : Int32))) ≤ 0) => ?_) (fun (c5 : ¬ ((if (f_X8_isSeatColumn a1 a2 S) = 0 then (1 : Int32) else if (S.1 34) = 3 then (2 : Int32) else (0 : Int32))) ≤ 0) => ?_)
    · have h := h.1 c5
      refine qm_aload_n E_X8_out (by rfl) dX8_out_39 ?_
      refine qm_get E_X8_out rfl 35 (by decide) q1692 (v := .ref (M.2.2.2 35)) rfl dX8_out_40 ?_
      refine qm_aload_n E_X8_out (by rfl) dX8_out_43 ?_
      refine qm_get E_X8_out rfl 34 (by decide) q1691 (v := .int (S.1 34)) rfl dX8_out_44 ?_
      refine qm_iload_n E_X8_out (by rfl) dX8_out_47 ?_
      obtain ⟨o6, h⟩ := h
      refine qm_iast E_X8_out 35 (by decide) rfl o6 dX8_out_48 ?_
      refine qm_aload_n E_X8_out (by rfl) dX8_out_49 ?_
      refine qm_get E_X8_out rfl 36 (by decide) q1693 (v := .ref (M.2.2.2 36)) rfl dX8_out_50 ?_
      refine qm_aload_n E_X8_out (by rfl) dX8_out_53 ?_
      refine qm_get E_X8_out rfl 34 (by decide) q1691 (v := .int (S.1 34)) rfl dX8_out_54 ?_
      refine qm_iload_n E_X8_out (by rfl) dX8_out_57 ?_
      obtain ⟨o7, h⟩ := h
      refine qm_iast E_X8_out 36 (by decide) rfl o7 dX8_out_58 ?_
      refine qm_aload_n E_X8_out (by rfl) dX8_out_59 ?_
      refine qm_dup E_X8_out rfl dX8_out_60 ?_
      refine qm_get E_X8_out rfl 34 (by decide) q1691 (v := .int (S.1 34)) rfl dX8_out_61 ?_
      refine qm_iconst E_X8_out 1 (by decide) dX8_out_64 ?_
      refine qm_iadd E_X8_out dX8_out_65 ?_
      refine qm_put E_X8_out rfl 34 (by decide) q1691 rfl rfl rfl (qm_set34) dX8_out_66 ?_
      refine qm_aload_n E_X8_out (by rfl) dX8_out_69 ?_
      refine qm_get E_X8_out rfl 34 (by decide) q1691 (v := .int ((S.1 34) + 1)) rfl dX8_out_70 ?_
      exact qm_iret E_X8_out rfl dX8_out_73 ⟨_, rfl, h⟩
    · have h := h.2 c5
      refine qm_iconst E_X8_out 0 (by decide) dX8_out_37 ?_
      exact qm_iret E_X8_out rfl dX8_out_38 ⟨_, rfl, h⟩
  refine qm_if_ne E_X8_out 14 dX8_out_7 (by decide) (fun (c2 : ¬ (f_X8_isSeatColumn a1 a2 S) = 0) => ?_) (fun (c2 : (f_X8_isSeatColumn a1 a2 S) = 0) => ?_)
  · refine qm_aload_n E_X8_out (by rfl) dX8_out_14 ?_
    refine qm_get E_X8_out rfl 34 (by decide) q1691 (v := .int (S.1 34)) rfl dX8_out_15 ?_
    refine qm_iconst E_X8_out 3 (by decide) dX8_out_18 ?_
    refine qm_icmp_ne E_X8_out 26 dX8_out_19 (by decide) (fun (c3 : ¬ (S.1 34) = 3) => ?_) (fun (c3 : (S.1 34) = 3) => ?_)
    · refine qm_iconst E_X8_out 0 (by decide) dX8_out_26 ?_
      exact Jv4 ((0 : Int32)) (by rw [if_neg c2, if_neg c3])
    · refine qm_iconst E_X8_out 2 (by decide) dX8_out_22 ?_
      refine qm_goto E_X8_out 27 dX8_out_23 (by decide) ?_
      exact Jv4 ((2 : Int32)) (by rw [if_neg c2, if_pos c3])
  · refine qm_iconst E_X8_out 1 (by decide) dX8_out_10 ?_
    refine qm_goto E_X8_out 27 dX8_out_11 (by decide) ?_
    exact Jv4 ((1 : Int32)) (by rw [if_pos c2])
def I_X8_shape : qh_I := (yX8_shape, cX8_shape, 3, (Option.none : Option Jvm.ClassFile.FieldType), [])
theorem E_X8_shape : I_X8_shape.2.1 = cX8_shape := rfl
theorem M_X8_shape : qh_M I_X8_shape 2 := ⟨by decide, by decide, by decide +kernel, q95, q2100, by decide⟩
def T_X8_shape (a1 a2 : Int32) (S : qm_S) (K : qm_S → Prop) : Prop := (¬ ((if (f_X8_in a1 1 40) = 0 then (1 : Int32) else (0 : Int32))) = 0 → K ((upd S.1 0 ((if (f_X8_in a1 1 40) = 0 then (1 : Int32) else (0 : Int32))), S.2))) ∧ (((if (f_X8_in a1 1 40) = 0 then (1 : Int32) else (0 : Int32))) = 0 → (a2 = 0 ∨ a2 = 1) ∧ K ((upd (upd (upd S.1 0 ((if (f_X8_in a1 1 40) = 0 then (1 : Int32) else (0 : Int32)))) 37 a1) 38 a2, S.2)))
set_option maxHeartbeats 4000000 in
theorem C_X8_shape {M : qm_G} {d : Nat} (a1 a2 : Int32) (S : qm_S) (K : qm_S → Prop) (h : T_X8_shape a1 a2 S K) : qm_C M (d + 1) I_X8_shape [.ref M.2.2.1, .int a1, .int a2] S (fun v S' => v = none ∧ K S') := by
  refine qm_C.of (by decide) rfl (ls := [some (.ref M.2.2.1), some (.int a1), some (.int a2)]) rfl (Nat.le_of_ble_eq_true rfl) (qm_ct rfl) ?_
  unfold T_X8_shape at h
  refine qm_aload_n E_X8_shape (by rfl) dX8_shape_0 ?_
  refine qm_iload_n E_X8_shape (by rfl) dX8_shape_1 ?_
  refine qm_iconst E_X8_shape 1 (by decide) dX8_shape_2 ?_
  refine qm_bipush E_X8_shape 40 (by decide) dX8_shape_3 ?_
  refine qm_callS (As := [.int a1, .int 1, .int 40]) (rest := [.ref M.2.2.1]) E_X8_shape rfl M_X8_in rfl q1951 q1952 rfl rfl (Nat.le_of_ble_eq_true rfl) dX8_shape_5 (C_X8_in (d := d) a1 1 40 S _ ?_)
  have Jv2 : ∀ v2 : Int32, v2 = (if (f_X8_in a1 1 40) = 0 then (1 : Int32) else (0 : Int32)) → qm_wp M (d + 1) I_X8_shape 16 [some (.ref M.2.2.1), some (.int a1), some (.int a2)] [.int v2, .ref M.2.2.1] S (fun v S' => v = none ∧ K S') := by
    rintro _ rfl
    refine qm_put E_X8_shape rfl 0 (by decide) q1657 rfl rfl rfl (qm_set0) dX8_shape_16 ?_
    refine qm_aload_n E_X8_shape (by rfl) dX8_shape_19 ?_
    refine qm_get E_X8_shape rfl 0 (by decide) q1657 (v := .int ((if (f_X8_in a1 1 40) = 0 then (1 : Int32) else (0 : Int32)))) rfl dX8_shape_20 ?_
    refine qm_if_ne E_X8_shape 36 dX8_shape_23 (by decide) (fun (c3 : ¬ ((if (f_X8_in a1 1 40) = 0 then (1 : Int32) else (0 : Int32))) = 0) => ?_) (fun (c3 : ((if (f_X8_in a1 1 40) = 0 then (1 : Int32) else (0 : Int32))) = 0) => ?_)
    · have h := h.1 c3
      exact qm_vret E_X8_shape rfl dX8_shape_36 ⟨rfl, h⟩
    · have h := h.2 c3
      refine qm_aload_n E_X8_shape (by rfl) dX8_shape_26 ?_
      refine qm_iload_n E_X8_shape (by rfl) dX8_shape_27 ?_
      refine qm_put E_X8_shape rfl 37 (by decide) q1694 rfl rfl rfl (qm_set37) dX8_shape_28 ?_
      refine qm_aload_n E_X8_shape (by rfl) dX8_shape_31 ?_
      refine qm_iload_n E_X8_shape (by rfl) dX8_shape_32 ?_
      obtain ⟨o4, h⟩ := h
      refine qm_put E_X8_shape rfl 38 (by decide) q1695 rfl (qm_nb o4) (qm_fb o4) (qm_set38) dX8_shape_33 ?_
      exact qm_vret E_X8_shape rfl dX8_shape_36 ⟨rfl, h⟩
  refine qm_if_eq E_X8_shape 15 dX8_shape_8 (by decide) (fun (c1 : (f_X8_in a1 1 40) = 0) => ?_) (fun (c1 : ¬ (f_X8_in a1 1 40) = 0) => ?_)
  · refine qm_iconst E_X8_shape 1 (by decide) dX8_shape_15 ?_
    exact Jv2 ((1 : Int32)) (by rw [if_pos c1])
  · refine qm_iconst E_X8_shape 0 (by decide) dX8_shape_11 ?_
    refine qm_goto E_X8_shape 16 dX8_shape_12 (by decide) ?_
    exact Jv2 ((0 : Int32)) (by rw [if_neg c1])
def I_X8_clear : qh_I := (yX8_clear, cX8_clear, 2, (Option.some Jvm.ClassFile.FieldType.int), [])
theorem E_X8_clear : I_X8_clear.2.1 = cX8_clear := rfl
theorem M_X8_clear : qh_M I_X8_clear 0 := ⟨by decide, by decide, by decide +kernel, q95, q2104, by decide⟩
def T_X8_clear (S : qm_S) (K : Int32 → qm_S → Prop) : Prop := K (S.1 22) ((upd (upd (upd (upd (upd (upd (upd S.1 0 0) 22 0) 24 0) 29 0) 34 0) 37 40) 38 0, S.2))
set_option maxHeartbeats 4000000 in
theorem C_X8_clear {M : qm_G} {d : Nat} (S : qm_S) (K : Int32 → qm_S → Prop) (h : T_X8_clear  S K) : qm_C M (d + 0) I_X8_clear [.ref M.2.2.1] S (fun v S' => ∃ r, v = some (.int r) ∧ K r S') := by
  refine qm_C.of (by decide) rfl (ls := [some (.ref M.2.2.1), none]) rfl (Nat.le_of_ble_eq_true rfl) (qm_ct rfl) ?_
  unfold T_X8_clear at h
  refine qm_aload_n E_X8_clear (by rfl) dX8_clear_0 ?_
  refine qm_iconst E_X8_clear 0 (by decide) dX8_clear_1 ?_
  refine qm_put E_X8_clear rfl 0 (by decide) q1657 rfl rfl rfl (qm_set0) dX8_clear_2 ?_
  refine qm_aload_n E_X8_clear (by rfl) dX8_clear_5 ?_
  refine qm_get E_X8_clear rfl 22 (by decide) q1679 (v := .int (S.1 22)) rfl dX8_clear_6 ?_
  refine qm_istore_n E_X8_clear (by decide) dX8_clear_9 ?_
  refine qm_aload_n E_X8_clear (by rfl) dX8_clear_10 ?_
  refine qm_iconst E_X8_clear 0 (by decide) dX8_clear_11 ?_
  refine qm_put E_X8_clear rfl 22 (by decide) q1679 rfl rfl rfl (qm_set22) dX8_clear_12 ?_
  refine qm_aload_n E_X8_clear (by rfl) dX8_clear_15 ?_
  refine qm_iconst E_X8_clear 0 (by decide) dX8_clear_16 ?_
  refine qm_put E_X8_clear rfl 24 (by decide) q1681 rfl rfl rfl (qm_set24) dX8_clear_17 ?_
  refine qm_aload_n E_X8_clear (by rfl) dX8_clear_20 ?_
  refine qm_iconst E_X8_clear 0 (by decide) dX8_clear_21 ?_
  refine qm_put E_X8_clear rfl 29 (by decide) q1686 rfl rfl rfl (qm_set29) dX8_clear_22 ?_
  refine qm_aload_n E_X8_clear (by rfl) dX8_clear_25 ?_
  refine qm_iconst E_X8_clear 0 (by decide) dX8_clear_26 ?_
  refine qm_put E_X8_clear rfl 34 (by decide) q1691 rfl rfl rfl (qm_set34) dX8_clear_27 ?_
  refine qm_aload_n E_X8_clear (by rfl) dX8_clear_30 ?_
  refine qm_bipush E_X8_clear 40 (by decide) dX8_clear_31 ?_
  refine qm_put E_X8_clear rfl 37 (by decide) q1694 rfl rfl rfl (qm_set37) dX8_clear_33 ?_
  refine qm_aload_n E_X8_clear (by rfl) dX8_clear_36 ?_
  refine qm_iconst E_X8_clear 0 (by decide) dX8_clear_37 ?_
  refine qm_put E_X8_clear rfl 38 (by decide) q1695 rfl (qm_nb (Or.inl rfl)) (qm_fb (Or.inl rfl)) (qm_set38) dX8_clear_38 ?_
  refine qm_iload_n E_X8_clear (by rfl) dX8_clear_41 ?_
  exact qm_iret E_X8_clear rfl dX8_clear_42 ⟨_, rfl, h⟩
def I_X8_isDrafted : qh_I := (yX8_isDrafted, cX8_isDrafted, 1, (Option.some Jvm.ClassFile.FieldType.boolean), [])
theorem E_X8_isDrafted : I_X8_isDrafted.2.1 = cX8_isDrafted := rfl
theorem M_X8_isDrafted : qh_M I_X8_isDrafted 0 := ⟨by decide, by decide, by decide +kernel, q95, q2112, by decide⟩
def f_X8_isDrafted (S : qm_S) : Int32 := if (S.1 22) ≤ 0 then (0 : Int32) else if (S.1 34) ≤ 0 then (0 : Int32) else (1 : Int32)
theorem z_X8_isDrafted (S : qm_S) : (f_X8_isDrafted S) = 0 ∨ (f_X8_isDrafted S) = 1 := (qm_zi (Or.inl rfl) (qm_zi (Or.inl rfl) (Or.inr rfl)))
set_option maxHeartbeats 4000000 in
theorem C_X8_isDrafted {M : qm_G} {d : Nat} (S : qm_S) (Q : Option Value → qm_S → Prop) (hq : Q (some (.int (f_X8_isDrafted S))) S) : qm_C M (d + 0) I_X8_isDrafted [.ref M.2.2.1] S Q := by
  refine qm_C.of (by decide) rfl (ls := [some (.ref M.2.2.1)]) rfl (Nat.le_of_ble_eq_true rfl) (qm_ct rfl) ?_
  unfold f_X8_isDrafted at hq
  refine qm_aload_n E_X8_isDrafted (by rfl) dX8_isDrafted_0 ?_
  refine qm_get E_X8_isDrafted rfl 22 (by decide) q1679 (v := .int (S.1 22)) rfl dX8_isDrafted_1 ?_
  refine qm_if_le E_X8_isDrafted 18 dX8_isDrafted_4 (by decide) (fun (c1 : (S.1 22) ≤ 0) => ?_) (fun (c1 : ¬ (S.1 22) ≤ 0) => ?_)
  · rw [if_pos c1] at hq
    refine qm_iconst E_X8_isDrafted 0 (by decide) dX8_isDrafted_18 ?_
    exact qm_zret E_X8_isDrafted rfl (qm_nb (Or.inl rfl)) dX8_isDrafted_19 hq
  · rw [if_neg c1] at hq
    refine qm_aload_n E_X8_isDrafted (by rfl) dX8_isDrafted_7 ?_
    refine qm_get E_X8_isDrafted rfl 34 (by decide) q1691 (v := .int (S.1 34)) rfl dX8_isDrafted_8 ?_
    refine qm_if_le E_X8_isDrafted 18 dX8_isDrafted_11 (by decide) (fun (c2 : (S.1 34) ≤ 0) => ?_) (fun (c2 : ¬ (S.1 34) ≤ 0) => ?_)
    · rw [if_pos c2] at hq
      refine qm_iconst E_X8_isDrafted 0 (by decide) dX8_isDrafted_18 ?_
      exact qm_zret E_X8_isDrafted rfl (qm_nb (Or.inl rfl)) dX8_isDrafted_19 hq
    · rw [if_neg c2] at hq
      refine qm_iconst E_X8_isDrafted 1 (by decide) dX8_isDrafted_14 ?_
      refine qm_goto E_X8_isDrafted 19 dX8_isDrafted_15 (by decide) ?_
      exact qm_zret E_X8_isDrafted rfl (qm_nb (Or.inr rfl)) dX8_isDrafted_19 hq
def I_X8_linkOf : qh_I := (yX8_linkOf, cX8_linkOf, 5, (Option.some Jvm.ClassFile.FieldType.int), [])
theorem E_X8_linkOf : I_X8_linkOf.2.1 = cX8_linkOf := rfl
theorem M_X8_linkOf : qh_M I_X8_linkOf 1 := ⟨by decide, by decide, by decide +kernel, q95, q2120, by decide⟩
def T_X8_linkOf (a1 : Int32) (S : qm_S) (K : Int32 → Prop) : Prop := ∀ X1 : Int32 → Int32 → Prop, (∀ (x2 x3 : Int32), ((x3 < 0 → K x2) ∧ (¬ x3 < 0 → vp_in x3 (qm_len 25) ∧ ((¬ (S.2 25 x3.toNatClampNeg) = a1 → vp_in x3 (qm_len 27) ∧ (¬ (S.2 27 x3.toNatClampNeg) = a1 → True) ∧ ((S.2 27 x3.toNatClampNeg) = a1 → vp_in (S.2 25 x3.toNatClampNeg) (qm_len 56))) ∧ ((S.2 25 x3.toNatClampNeg) = a1 → vp_in x3 (qm_len 27) ∧ vp_in (S.2 27 x3.toNatClampNeg) (qm_len 56) ∧ (¬ (S.2 56 (S.2 27 x3.toNatClampNeg).toNatClampNeg) = 0 → True) ∧ ((S.2 56 (S.2 27 x3.toNatClampNeg).toNatClampNeg) = 0 → (¬ (S.2 27 x3.toNatClampNeg) = a1 → True) ∧ ((S.2 27 x3.toNatClampNeg) = a1 → vp_in (S.2 25 x3.toNatClampNeg) (qm_len 56))))) ∧ (((if (S.2 25 x3.toNatClampNeg) = a1 then if (S.2 56 (S.2 27 x3.toNatClampNeg).toNatClampNeg) = 0 then if (S.2 27 x3.toNatClampNeg) = a1 then if (S.2 56 (S.2 25 x3.toNatClampNeg).toNatClampNeg) = 0 then (0 : Int32) else (1 : Int32) else (0 : Int32) else (1 : Int32) else if (S.2 27 x3.toNatClampNeg) = a1 then if (S.2 56 (S.2 25 x3.toNatClampNeg).toNatClampNeg) = 0 then (0 : Int32) else (1 : Int32) else (0 : Int32))) = 0 → X1 x2 (x3 + (-1))) ∧ (¬ ((if (S.2 25 x3.toNatClampNeg) = a1 then if (S.2 56 (S.2 27 x3.toNatClampNeg).toNatClampNeg) = 0 then if (S.2 27 x3.toNatClampNeg) = a1 then if (S.2 56 (S.2 25 x3.toNatClampNeg).toNatClampNeg) = 0 then (0 : Int32) else (1 : Int32) else (0 : Int32) else (1 : Int32) else if (S.2 27 x3.toNatClampNeg) = a1 then if (S.2 56 (S.2 25 x3.toNatClampNeg).toNatClampNeg) = 0 then (0 : Int32) else (1 : Int32) else (0 : Int32))) = 0 → X1 x3 (x3 + (-1))))) → X1 x2 x3) → X1 ((-1)) ((S.1 24) - 1)
set_option maxHeartbeats 4000000 in
theorem C_X8_linkOf {M : qm_G} {d : Nat} (a1 : Int32) (S : qm_S) (K : Int32 → Prop) (h : T_X8_linkOf a1 S K) : qm_C M (d + 0) I_X8_linkOf [.ref M.2.2.1, .int a1] S (fun v S' => ∃ r, v = some (.int r) ∧ S = S' ∧ K r) := by
  refine qm_C.of (by decide) rfl (ls := [some (.ref M.2.2.1), some (.int a1), none, none, none]) rfl (Nat.le_of_ble_eq_true rfl) (qm_ct rfl) ?_
  unfold T_X8_linkOf at h
  refine qm_iconst E_X8_linkOf (-1) (by decide) dX8_linkOf_0 ?_
  refine qm_istore_n E_X8_linkOf (by decide) dX8_linkOf_1 ?_
  refine qm_aload_n E_X8_linkOf (by rfl) dX8_linkOf_2 ?_
  refine qm_get E_X8_linkOf rfl 24 (by decide) q1681 (v := .int (S.1 24)) rfl dX8_linkOf_3 ?_
  refine qm_iconst E_X8_linkOf 1 (by decide) dX8_linkOf_6 ?_
  refine qm_isub E_X8_linkOf dX8_linkOf_7 ?_
  refine qm_istore_n E_X8_linkOf (by decide) dX8_linkOf_8 ?_
  refine h (fun x2 x3 => qm_wp M (d + 0) I_X8_linkOf 9 [some (.ref M.2.2.1), some (.int a1), some (.int x2), some (.int x3), none] [] S (fun v S' => ∃ r, v = some (.int r) ∧ S = S' ∧ K r)) ?_
  intro x2 x3 h
  refine qm_iload_n E_X8_linkOf (by rfl) dX8_linkOf_9 ?_
  refine qm_if_lt E_X8_linkOf 85 dX8_linkOf_10 (by decide) (fun (c4 : x3 < 0) => ?_) (fun (c4 : ¬ x3 < 0) => ?_)
  · have h := h.1 c4
    refine qm_iload_n E_X8_linkOf (by rfl) dX8_linkOf_85 ?_
    exact qm_iret E_X8_linkOf rfl dX8_linkOf_86 ⟨_, rfl, rfl, h⟩
  · have h := h.2 c4
    refine qm_aload_n E_X8_linkOf (by rfl) dX8_linkOf_13 ?_
    refine qm_get E_X8_linkOf rfl 25 (by decide) q1682 (v := .ref (M.2.2.2 25)) rfl dX8_linkOf_14 ?_
    refine qm_iload_n E_X8_linkOf (by rfl) dX8_linkOf_17 ?_
    obtain ⟨o5, h⟩ := h
    refine qm_iald E_X8_linkOf 25 (by decide) rfl o5 dX8_linkOf_18 ?_
    refine qm_iload_n E_X8_linkOf (by rfl) dX8_linkOf_19 ?_
    obtain ⟨h9, h⟩ := h
    have Jv17 : ∀ v17 : Int32, v17 = (if (S.2 25 x3.toNatClampNeg) = a1 then if (S.2 56 (S.2 27 x3.toNatClampNeg).toNatClampNeg) = 0 then if (S.2 27 x3.toNatClampNeg) = a1 then if (S.2 56 (S.2 25 x3.toNatClampNeg).toNatClampNeg) = 0 then (0 : Int32) else (1 : Int32) else (0 : Int32) else (1 : Int32) else if (S.2 27 x3.toNatClampNeg) = a1 then if (S.2 56 (S.2 25 x3.toNatClampNeg).toNatClampNeg) = 0 then (0 : Int32) else (1 : Int32) else (0 : Int32)) → qm_wp M (d + 0) I_X8_linkOf 66 [some (.ref M.2.2.1), some (.int a1), some (.int x2), some (.int x3), none] [.int v17] S (fun v S' => ∃ r, v = some (.int r) ∧ S = S' ∧ K r) := by
      rintro _ rfl
      refine qm_istore E_X8_linkOf (by decide) dX8_linkOf_66 ?_
      refine qm_iload E_X8_linkOf (by rfl) dX8_linkOf_68 ?_
      refine qm_if_eq E_X8_linkOf 77 dX8_linkOf_70 (by decide) (fun (c18 : ((if (S.2 25 x3.toNatClampNeg) = a1 then if (S.2 56 (S.2 27 x3.toNatClampNeg).toNatClampNeg) = 0 then if (S.2 27 x3.toNatClampNeg) = a1 then if (S.2 56 (S.2 25 x3.toNatClampNeg).toNatClampNeg) = 0 then (0 : Int32) else (1 : Int32) else (0 : Int32) else (1 : Int32) else if (S.2 27 x3.toNatClampNeg) = a1 then if (S.2 56 (S.2 25 x3.toNatClampNeg).toNatClampNeg) = 0 then (0 : Int32) else (1 : Int32) else (0 : Int32))) = 0) => ?_) (fun (c18 : ¬ ((if (S.2 25 x3.toNatClampNeg) = a1 then if (S.2 56 (S.2 27 x3.toNatClampNeg).toNatClampNeg) = 0 then if (S.2 27 x3.toNatClampNeg) = a1 then if (S.2 56 (S.2 25 x3.toNatClampNeg).toNatClampNeg) = 0 then (0 : Int32) else (1 : Int32) else (0 : Int32) else (1 : Int32) else if (S.2 27 x3.toNatClampNeg) = a1 then if (S.2 56 (S.2 25 x3.toNatClampNeg).toNatClampNeg) = 0 then (0 : Int32) else (1 : Int32) else (0 : Int32))) = 0) => ?_)
      · have h := h.1 c18
        refine qm_iload_n E_X8_linkOf (by rfl) dX8_linkOf_77 ?_
        refine qm_istore_n E_X8_linkOf (by decide) dX8_linkOf_78 ?_
        refine qm_iinc E_X8_linkOf (-1) rfl (by decide) (by decide) dX8_linkOf_79 ?_
        refine qm_goto E_X8_linkOf 9 dX8_linkOf_82 (by decide) ?_
        refine qm_drop 4 ?_
        exact h
      · have h := h.2 c18
        refine qm_iload_n E_X8_linkOf (by rfl) dX8_linkOf_73 ?_
        refine qm_goto E_X8_linkOf 78 dX8_linkOf_74 (by decide) ?_
        refine qm_istore_n E_X8_linkOf (by decide) dX8_linkOf_78 ?_
        refine qm_iinc E_X8_linkOf (-1) rfl (by decide) (by decide) dX8_linkOf_79 ?_
        refine qm_goto E_X8_linkOf 9 dX8_linkOf_82 (by decide) ?_
        refine qm_drop 4 ?_
        exact h
    have h := h9
    refine qm_icmp_ne E_X8_linkOf 37 dX8_linkOf_20 (by decide) (fun (c6 : ¬ (S.2 25 x3.toNatClampNeg) = a1) => ?_) (fun (c6 : (S.2 25 x3.toNatClampNeg) = a1) => ?_)
    · have h := h.1 c6
      refine qm_aload_n E_X8_linkOf (by rfl) dX8_linkOf_37 ?_
      refine qm_get E_X8_linkOf rfl 27 (by decide) q1684 (v := .ref (M.2.2.2 27)) rfl dX8_linkOf_38 ?_
      refine qm_iload_n E_X8_linkOf (by rfl) dX8_linkOf_41 ?_
      obtain ⟨o7, h⟩ := h
      refine qm_iald E_X8_linkOf 27 (by decide) rfl o7 dX8_linkOf_42 ?_
      refine qm_iload_n E_X8_linkOf (by rfl) dX8_linkOf_43 ?_
      refine qm_icmp_ne E_X8_linkOf 65 dX8_linkOf_44 (by decide) (fun (c8 : ¬ (S.2 27 x3.toNatClampNeg) = a1) => ?_) (fun (c8 : (S.2 27 x3.toNatClampNeg) = a1) => ?_)
      · have h := h.1 c8
        refine qm_iconst E_X8_linkOf 0 (by decide) dX8_linkOf_65 ?_
        exact Jv17 ((0 : Int32)) (by rw [if_neg c6, if_neg c8])
      · have h := h.2 c8
        refine qm_aload_n E_X8_linkOf (by rfl) dX8_linkOf_47 ?_
        refine qm_get E_X8_linkOf rfl 56 (by decide) q1713 (v := .ref (M.2.2.2 56)) rfl dX8_linkOf_48 ?_
        refine qm_aload_n E_X8_linkOf (by rfl) dX8_linkOf_51 ?_
        refine qm_get E_X8_linkOf rfl 25 (by decide) q1682 (v := .ref (M.2.2.2 25)) rfl dX8_linkOf_52 ?_
        refine qm_iload_n E_X8_linkOf (by rfl) dX8_linkOf_55 ?_
        refine qm_iald E_X8_linkOf 25 (by decide) rfl o5 dX8_linkOf_56 ?_
        have o9 := h
        refine qm_zald E_X8_linkOf 56 (by decide) rfl o9 dX8_linkOf_57 ?_
        refine qm_if_eq E_X8_linkOf 65 dX8_linkOf_58 (by decide) (fun (c10 : (S.2 56 (S.2 25 x3.toNatClampNeg).toNatClampNeg) = 0) => ?_) (fun (c10 : ¬ (S.2 56 (S.2 25 x3.toNatClampNeg).toNatClampNeg) = 0) => ?_)
        · refine qm_iconst E_X8_linkOf 0 (by decide) dX8_linkOf_65 ?_
          exact Jv17 ((0 : Int32)) (by rw [if_neg c6, if_pos c8, if_pos c10])
        · refine qm_iconst E_X8_linkOf 1 (by decide) dX8_linkOf_61 ?_
          refine qm_goto E_X8_linkOf 66 dX8_linkOf_62 (by decide) ?_
          exact Jv17 ((1 : Int32)) (by rw [if_neg c6, if_pos c8, if_neg c10])
    · have h := h.2 c6
      refine qm_aload_n E_X8_linkOf (by rfl) dX8_linkOf_23 ?_
      refine qm_get E_X8_linkOf rfl 56 (by decide) q1713 (v := .ref (M.2.2.2 56)) rfl dX8_linkOf_24 ?_
      refine qm_aload_n E_X8_linkOf (by rfl) dX8_linkOf_27 ?_
      refine qm_get E_X8_linkOf rfl 27 (by decide) q1684 (v := .ref (M.2.2.2 27)) rfl dX8_linkOf_28 ?_
      refine qm_iload_n E_X8_linkOf (by rfl) dX8_linkOf_31 ?_
      obtain ⟨o11, h⟩ := h
      refine qm_iald E_X8_linkOf 27 (by decide) rfl o11 dX8_linkOf_32 ?_
      obtain ⟨o12, h⟩ := h
      refine qm_zald E_X8_linkOf 56 (by decide) rfl o12 dX8_linkOf_33 ?_
      refine qm_if_ne E_X8_linkOf 61 dX8_linkOf_34 (by decide) (fun (c13 : ¬ (S.2 56 (S.2 27 x3.toNatClampNeg).toNatClampNeg) = 0) => ?_) (fun (c13 : (S.2 56 (S.2 27 x3.toNatClampNeg).toNatClampNeg) = 0) => ?_)
      · have h := h.1 c13
        refine qm_iconst E_X8_linkOf 1 (by decide) dX8_linkOf_61 ?_
        refine qm_goto E_X8_linkOf 66 dX8_linkOf_62 (by decide) ?_
        exact Jv17 ((1 : Int32)) (by rw [if_pos c6, if_neg c13])
      · have h := h.2 c13
        refine qm_aload_n E_X8_linkOf (by rfl) dX8_linkOf_37 ?_
        refine qm_get E_X8_linkOf rfl 27 (by decide) q1684 (v := .ref (M.2.2.2 27)) rfl dX8_linkOf_38 ?_
        refine qm_iload_n E_X8_linkOf (by rfl) dX8_linkOf_41 ?_
        refine qm_iald E_X8_linkOf 27 (by decide) rfl o11 dX8_linkOf_42 ?_
        refine qm_iload_n E_X8_linkOf (by rfl) dX8_linkOf_43 ?_
        refine qm_icmp_ne E_X8_linkOf 65 dX8_linkOf_44 (by decide) (fun (c14 : ¬ (S.2 27 x3.toNatClampNeg) = a1) => ?_) (fun (c14 : (S.2 27 x3.toNatClampNeg) = a1) => ?_)
        · have h := h.1 c14
          refine qm_iconst E_X8_linkOf 0 (by decide) dX8_linkOf_65 ?_
          exact Jv17 ((0 : Int32)) (by rw [if_pos c6, if_pos c13, if_neg c14])
        · have h := h.2 c14
          refine qm_aload_n E_X8_linkOf (by rfl) dX8_linkOf_47 ?_
          refine qm_get E_X8_linkOf rfl 56 (by decide) q1713 (v := .ref (M.2.2.2 56)) rfl dX8_linkOf_48 ?_
          refine qm_aload_n E_X8_linkOf (by rfl) dX8_linkOf_51 ?_
          refine qm_get E_X8_linkOf rfl 25 (by decide) q1682 (v := .ref (M.2.2.2 25)) rfl dX8_linkOf_52 ?_
          refine qm_iload_n E_X8_linkOf (by rfl) dX8_linkOf_55 ?_
          refine qm_iald E_X8_linkOf 25 (by decide) rfl o5 dX8_linkOf_56 ?_
          have o15 := h
          refine qm_zald E_X8_linkOf 56 (by decide) rfl o15 dX8_linkOf_57 ?_
          refine qm_if_eq E_X8_linkOf 65 dX8_linkOf_58 (by decide) (fun (c16 : (S.2 56 (S.2 25 x3.toNatClampNeg).toNatClampNeg) = 0) => ?_) (fun (c16 : ¬ (S.2 56 (S.2 25 x3.toNatClampNeg).toNatClampNeg) = 0) => ?_)
          · refine qm_iconst E_X8_linkOf 0 (by decide) dX8_linkOf_65 ?_
            exact Jv17 ((0 : Int32)) (by rw [if_pos c6, if_pos c13, if_pos c14, if_pos c16])
          · refine qm_iconst E_X8_linkOf 1 (by decide) dX8_linkOf_61 ?_
            refine qm_goto E_X8_linkOf 66 dX8_linkOf_62 (by decide) ?_
            exact Jv17 ((1 : Int32)) (by rw [if_pos c6, if_pos c13, if_pos c14, if_neg c16])
def I_X8_canDo : qh_I := (yX8_canDo, cX8_canDo, 3, (Option.some Jvm.ClassFile.FieldType.boolean), [])
theorem E_X8_canDo : I_X8_canDo.2.1 = cX8_canDo := rfl
theorem M_X8_canDo : qh_M I_X8_canDo 3 := ⟨by decide, by decide, by decide +kernel, q95, q2135, by decide⟩
def f_X8_canDo (a1 a2 a3 : Int32) : Int32 := if a1 = 0 then if a3 = 4 then (0 : Int32) else (1 : Int32) else if a1 = 1 then if a2 = 0 then if 2 < a3 then (0 : Int32) else (1 : Int32) else (0 : Int32) else if a3 = 0 then (1 : Int32) else if a3 = 4 then (1 : Int32) else if a2 = 0 then if 2 < a3 then (0 : Int32) else (1 : Int32) else (0 : Int32)
theorem z_X8_canDo (a1 a2 a3 : Int32) : (f_X8_canDo a1 a2 a3) = 0 ∨ (f_X8_canDo a1 a2 a3) = 1 := (qm_zi (qm_zi (Or.inl rfl) (Or.inr rfl)) (qm_zi (qm_zi (qm_zi (Or.inl rfl) (Or.inr rfl)) (Or.inl rfl)) (qm_zi (Or.inr rfl) (qm_zi (Or.inr rfl) (qm_zi (qm_zi (Or.inl rfl) (Or.inr rfl)) (Or.inl rfl))))))
set_option maxHeartbeats 4000000 in
theorem C_X8_canDo {M : qm_G} {d : Nat} (a1 a2 a3 : Int32) (S : qm_S) (Q : Option Value → qm_S → Prop) (hq : Q (some (.int (f_X8_canDo a1 a2 a3))) S) : qm_C M (d + 0) I_X8_canDo [.int a1, .int a2, .int a3] S Q := by
  refine qm_C.of (by decide) rfl (ls := [some (.int a1), some (.int a2), some (.int a3)]) rfl (Nat.le_of_ble_eq_true rfl) (qm_ct rfl) ?_
  unfold f_X8_canDo at hq
  refine qm_iload_n E_X8_canDo (by rfl) dX8_canDo_0 ?_
  refine qm_if_ne E_X8_canDo 15 dX8_canDo_1 (by decide) (fun (c1 : ¬ a1 = 0) => ?_) (fun (c1 : a1 = 0) => ?_)
  · rw [if_neg c1] at hq
    refine qm_iload_n E_X8_canDo (by rfl) dX8_canDo_15 ?_
    refine qm_iconst E_X8_canDo 1 (by decide) dX8_canDo_16 ?_
    refine qm_icmp_ne E_X8_canDo 35 dX8_canDo_17 (by decide) (fun (c2 : ¬ a1 = 1) => ?_) (fun (c2 : a1 = 1) => ?_)
    · rw [if_neg c2] at hq
      refine qm_iload_n E_X8_canDo (by rfl) dX8_canDo_35 ?_
      refine qm_if_eq E_X8_canDo 53 dX8_canDo_36 (by decide) (fun (c3 : a3 = 0) => ?_) (fun (c3 : ¬ a3 = 0) => ?_)
      · rw [if_pos c3] at hq
        refine qm_iconst E_X8_canDo 1 (by decide) dX8_canDo_53 ?_
        refine qm_goto E_X8_canDo 58 dX8_canDo_54 (by decide) ?_
        exact qm_zret E_X8_canDo rfl (qm_nb (Or.inr rfl)) dX8_canDo_58 hq
      · rw [if_neg c3] at hq
        refine qm_iload_n E_X8_canDo (by rfl) dX8_canDo_39 ?_
        refine qm_iconst E_X8_canDo 4 (by decide) dX8_canDo_40 ?_
        refine qm_icmp_eq E_X8_canDo 53 dX8_canDo_41 (by decide) (fun (c4 : a3 = 4) => ?_) (fun (c4 : ¬ a3 = 4) => ?_)
        · rw [if_pos c4] at hq
          refine qm_iconst E_X8_canDo 1 (by decide) dX8_canDo_53 ?_
          refine qm_goto E_X8_canDo 58 dX8_canDo_54 (by decide) ?_
          exact qm_zret E_X8_canDo rfl (qm_nb (Or.inr rfl)) dX8_canDo_58 hq
        · rw [if_neg c4] at hq
          refine qm_iload_n E_X8_canDo (by rfl) dX8_canDo_44 ?_
          refine qm_if_ne E_X8_canDo 57 dX8_canDo_45 (by decide) (fun (c5 : ¬ a2 = 0) => ?_) (fun (c5 : a2 = 0) => ?_)
          · rw [if_neg c5] at hq
            refine qm_iconst E_X8_canDo 0 (by decide) dX8_canDo_57 ?_
            exact qm_zret E_X8_canDo rfl (qm_nb (Or.inl rfl)) dX8_canDo_58 hq
          · rw [if_pos c5] at hq
            refine qm_iload_n E_X8_canDo (by rfl) dX8_canDo_48 ?_
            refine qm_iconst E_X8_canDo 2 (by decide) dX8_canDo_49 ?_
            refine qm_icmp_gt E_X8_canDo 57 dX8_canDo_50 (by decide) (fun (c6 : 2 < a3) => ?_) (fun (c6 : ¬ 2 < a3) => ?_)
            · rw [if_pos c6] at hq
              refine qm_iconst E_X8_canDo 0 (by decide) dX8_canDo_57 ?_
              exact qm_zret E_X8_canDo rfl (qm_nb (Or.inl rfl)) dX8_canDo_58 hq
            · rw [if_neg c6] at hq
              refine qm_iconst E_X8_canDo 1 (by decide) dX8_canDo_53 ?_
              refine qm_goto E_X8_canDo 58 dX8_canDo_54 (by decide) ?_
              exact qm_zret E_X8_canDo rfl (qm_nb (Or.inr rfl)) dX8_canDo_58 hq
    · rw [if_pos c2] at hq
      refine qm_iload_n E_X8_canDo (by rfl) dX8_canDo_20 ?_
      refine qm_if_ne E_X8_canDo 33 dX8_canDo_21 (by decide) (fun (c7 : ¬ a2 = 0) => ?_) (fun (c7 : a2 = 0) => ?_)
      · rw [if_neg c7] at hq
        refine qm_iconst E_X8_canDo 0 (by decide) dX8_canDo_33 ?_
        exact qm_zret E_X8_canDo rfl (qm_nb (Or.inl rfl)) dX8_canDo_34 hq
      · rw [if_pos c7] at hq
        refine qm_iload_n E_X8_canDo (by rfl) dX8_canDo_24 ?_
        refine qm_iconst E_X8_canDo 2 (by decide) dX8_canDo_25 ?_
        refine qm_icmp_gt E_X8_canDo 33 dX8_canDo_26 (by decide) (fun (c8 : 2 < a3) => ?_) (fun (c8 : ¬ 2 < a3) => ?_)
        · rw [if_pos c8] at hq
          refine qm_iconst E_X8_canDo 0 (by decide) dX8_canDo_33 ?_
          exact qm_zret E_X8_canDo rfl (qm_nb (Or.inl rfl)) dX8_canDo_34 hq
        · rw [if_neg c8] at hq
          refine qm_iconst E_X8_canDo 1 (by decide) dX8_canDo_29 ?_
          refine qm_goto E_X8_canDo 34 dX8_canDo_30 (by decide) ?_
          exact qm_zret E_X8_canDo rfl (qm_nb (Or.inr rfl)) dX8_canDo_34 hq
  · rw [if_pos c1] at hq
    refine qm_iload_n E_X8_canDo (by rfl) dX8_canDo_4 ?_
    refine qm_iconst E_X8_canDo 4 (by decide) dX8_canDo_5 ?_
    refine qm_icmp_eq E_X8_canDo 13 dX8_canDo_6 (by decide) (fun (c9 : a3 = 4) => ?_) (fun (c9 : ¬ a3 = 4) => ?_)
    · rw [if_pos c9] at hq
      refine qm_iconst E_X8_canDo 0 (by decide) dX8_canDo_13 ?_
      exact qm_zret E_X8_canDo rfl (qm_nb (Or.inl rfl)) dX8_canDo_14 hq
    · rw [if_neg c9] at hq
      refine qm_iconst E_X8_canDo 1 (by decide) dX8_canDo_9 ?_
      refine qm_goto E_X8_canDo 14 dX8_canDo_10 (by decide) ?_
      exact qm_zret E_X8_canDo rfl (qm_nb (Or.inr rfl)) dX8_canDo_14 hq
def I_X8_isSent : qh_I := (yX8_isSent, cX8_isSent, 3, (Option.some Jvm.ClassFile.FieldType.boolean), [])
theorem E_X8_isSent : I_X8_isSent.2.1 = cX8_isSent := rfl
theorem M_X8_isSent : qh_M I_X8_isSent 2 := ⟨by decide, by decide, by decide +kernel, q95, q2132, by decide⟩
def f_X8_isSent (a1 a2 : Int32) (S : qm_S) : Int32 := if (S.2 30 a1.toNatClampNeg) = a2 then if (f_X8_canDo (f_X8_storeOf (S.2 23 a2.toNatClampNeg)) (S.2 31 a1.toNatClampNeg) (S.2 32 a1.toNatClampNeg)) = 0 then (0 : Int32) else (1 : Int32) else (0 : Int32)
def p_X8_isSent (a1 a2 : Int32) (S : qm_S) : Prop := vp_in a1 (qm_len 30) ∧ (¬ (S.2 30 a1.toNatClampNeg) = a2 → True) ∧ ((S.2 30 a1.toNatClampNeg) = a2 → vp_in a2 (qm_len 23) ∧ vp_in a1 (qm_len 31) ∧ vp_in a1 (qm_len 32))
theorem z_X8_isSent (a1 a2 : Int32) (S : qm_S) : (f_X8_isSent a1 a2 S) = 0 ∨ (f_X8_isSent a1 a2 S) = 1 := (qm_zi (qm_zi (Or.inl rfl) (Or.inr rfl)) (Or.inl rfl))
set_option maxHeartbeats 4000000 in
theorem C_X8_isSent {M : qm_G} {d : Nat} (a1 a2 : Int32) (S : qm_S) (Q : Option Value → qm_S → Prop) (hp : p_X8_isSent a1 a2 S) (hq : Q (some (.int (f_X8_isSent a1 a2 S))) S) : qm_C M (d + 1) I_X8_isSent [.ref M.2.2.1, .int a1, .int a2] S Q := by
  refine qm_C.of (by decide) rfl (ls := [some (.ref M.2.2.1), some (.int a1), some (.int a2)]) rfl (Nat.le_of_ble_eq_true rfl) (qm_ct rfl) ?_
  have h := hp
  unfold p_X8_isSent at h
  unfold f_X8_isSent at hq
  refine qm_aload_n E_X8_isSent (by rfl) dX8_isSent_0 ?_
  refine qm_get E_X8_isSent rfl 30 (by decide) q1687 (v := .ref (M.2.2.2 30)) rfl dX8_isSent_1 ?_
  refine qm_iload_n E_X8_isSent (by rfl) dX8_isSent_4 ?_
  obtain ⟨o1, h⟩ := h
  refine qm_iald E_X8_isSent 30 (by decide) rfl o1 dX8_isSent_5 ?_
  refine qm_iload_n E_X8_isSent (by rfl) dX8_isSent_6 ?_
  refine qm_icmp_ne E_X8_isSent 41 dX8_isSent_7 (by decide) (fun (c2 : ¬ (S.2 30 a1.toNatClampNeg) = a2) => ?_) (fun (c2 : (S.2 30 a1.toNatClampNeg) = a2) => ?_)
  · have h := h.1 c2
    rw [if_neg c2] at hq
    refine qm_iconst E_X8_isSent 0 (by decide) dX8_isSent_41 ?_
    exact qm_zret E_X8_isSent rfl (qm_nb (Or.inl rfl)) dX8_isSent_42 hq
  · have h := h.2 c2
    rw [if_pos c2] at hq
    refine qm_aload_n E_X8_isSent (by rfl) dX8_isSent_10 ?_
    refine qm_get E_X8_isSent rfl 23 (by decide) q1680 (v := .ref (M.2.2.2 23)) rfl dX8_isSent_11 ?_
    refine qm_iload_n E_X8_isSent (by rfl) dX8_isSent_14 ?_
    obtain ⟨o3, h⟩ := h
    refine qm_iald E_X8_isSent 23 (by decide) rfl o3 dX8_isSent_15 ?_
    refine qm_callS (As := [.int (S.2 23 a2.toNatClampNeg)]) (rest := []) E_X8_isSent rfl M_X8_storeOf rfl q1964 q1965 rfl rfl (Nat.le_of_ble_eq_true rfl) dX8_isSent_16 (C_X8_storeOf (d := d) (S.2 23 a2.toNatClampNeg) S _ ?_)
    refine qm_aload_n E_X8_isSent (by rfl) dX8_isSent_19 ?_
    refine qm_get E_X8_isSent rfl 31 (by decide) q1688 (v := .ref (M.2.2.2 31)) rfl dX8_isSent_20 ?_
    refine qm_iload_n E_X8_isSent (by rfl) dX8_isSent_23 ?_
    obtain ⟨o4, h⟩ := h
    refine qm_iald E_X8_isSent 31 (by decide) rfl o4 dX8_isSent_24 ?_
    refine qm_aload_n E_X8_isSent (by rfl) dX8_isSent_25 ?_
    refine qm_get E_X8_isSent rfl 32 (by decide) q1689 (v := .ref (M.2.2.2 32)) rfl dX8_isSent_26 ?_
    refine qm_iload_n E_X8_isSent (by rfl) dX8_isSent_29 ?_
    have o5 := h
    refine qm_iald E_X8_isSent 32 (by decide) rfl o5 dX8_isSent_30 ?_
    refine qm_callS (As := [.int (f_X8_storeOf (S.2 23 a2.toNatClampNeg)), .int (S.2 31 a1.toNatClampNeg), .int (S.2 32 a1.toNatClampNeg)]) (rest := []) E_X8_isSent rfl M_X8_canDo rfl q2133 q2134 rfl rfl (Nat.le_of_ble_eq_true rfl) dX8_isSent_31 (C_X8_canDo (d := d) (f_X8_storeOf (S.2 23 a2.toNatClampNeg)) (S.2 31 a1.toNatClampNeg) (S.2 32 a1.toNatClampNeg) S _ ?_)
    refine qm_if_eq E_X8_isSent 41 dX8_isSent_34 (by decide) (fun (c6 : (f_X8_canDo (f_X8_storeOf (S.2 23 a2.toNatClampNeg)) (S.2 31 a1.toNatClampNeg) (S.2 32 a1.toNatClampNeg)) = 0) => ?_) (fun (c6 : ¬ (f_X8_canDo (f_X8_storeOf (S.2 23 a2.toNatClampNeg)) (S.2 31 a1.toNatClampNeg) (S.2 32 a1.toNatClampNeg)) = 0) => ?_)
    · rw [if_pos c6] at hq
      refine qm_iconst E_X8_isSent 0 (by decide) dX8_isSent_41 ?_
      exact qm_zret E_X8_isSent rfl (qm_nb (Or.inl rfl)) dX8_isSent_42 hq
    · rw [if_neg c6] at hq
      refine qm_iconst E_X8_isSent 1 (by decide) dX8_isSent_37 ?_
      refine qm_goto E_X8_isSent 42 dX8_isSent_38 (by decide) ?_
      exact qm_zret E_X8_isSent rfl (qm_nb (Or.inr rfl)) dX8_isSent_42 hq
def I_X8_manySent : qh_I := (yX8_manySent, cX8_manySent, 4, (Option.some Jvm.ClassFile.FieldType.int), [])
theorem E_X8_manySent : I_X8_manySent.2.1 = cX8_manySent := rfl
theorem M_X8_manySent : qh_M I_X8_manySent 1 := ⟨by decide, by decide, by decide +kernel, q95, q2128, by decide⟩
def T_X8_manySent (a1 : Int32) (S : qm_S) (K : Int32 → Prop) : Prop := ∀ X1 : Int32 → Int32 → Prop, (∀ (x2 x3 : Int32), (((S.1 29) ≤ x3 → K x2) ∧ (¬ (S.1 29) ≤ x3 → p_X8_isSent x3 a1 S ∧ ((f_X8_isSent x3 a1 S) = 0 → X1 (x2 + 0) (x3 + 1)) ∧ (¬ (f_X8_isSent x3 a1 S) = 0 → X1 (x2 + 1) (x3 + 1)))) → X1 x2 x3) → X1 0 0
set_option maxHeartbeats 4000000 in
theorem C_X8_manySent {M : qm_G} {d : Nat} (a1 : Int32) (S : qm_S) (K : Int32 → Prop) (h : T_X8_manySent a1 S K) : qm_C M (d + 2) I_X8_manySent [.ref M.2.2.1, .int a1] S (fun v S' => ∃ r, v = some (.int r) ∧ S = S' ∧ K r) := by
  refine qm_C.of (by decide) rfl (ls := [some (.ref M.2.2.1), some (.int a1), none, none]) rfl (Nat.le_of_ble_eq_true rfl) (qm_ct rfl) ?_
  unfold T_X8_manySent at h
  refine qm_iconst E_X8_manySent 0 (by decide) dX8_manySent_0 ?_
  refine qm_istore_n E_X8_manySent (by decide) dX8_manySent_1 ?_
  refine qm_iconst E_X8_manySent 0 (by decide) dX8_manySent_2 ?_
  refine qm_istore_n E_X8_manySent (by decide) dX8_manySent_3 ?_
  refine h (fun x2 x3 => qm_wp M (d + 2) I_X8_manySent 4 [some (.ref M.2.2.1), some (.int a1), some (.int x2), some (.int x3)] [] S (fun v S' => ∃ r, v = some (.int r) ∧ S = S' ∧ K r)) ?_
  intro x2 x3 h
  refine qm_iload_n E_X8_manySent (by rfl) dX8_manySent_4 ?_
  refine qm_aload_n E_X8_manySent (by rfl) dX8_manySent_5 ?_
  refine qm_get E_X8_manySent rfl 29 (by decide) q1686 (v := .int (S.1 29)) rfl dX8_manySent_6 ?_
  refine qm_icmp_ge E_X8_manySent 35 dX8_manySent_9 (by decide) (fun (c4 : (S.1 29) ≤ x3) => ?_) (fun (c4 : ¬ (S.1 29) ≤ x3) => ?_)
  · have h := h.1 c4
    refine qm_iload_n E_X8_manySent (by rfl) dX8_manySent_35 ?_
    exact qm_iret E_X8_manySent rfl dX8_manySent_36 ⟨_, rfl, rfl, h⟩
  · have h := h.2 c4
    refine qm_iload_n E_X8_manySent (by rfl) dX8_manySent_12 ?_
    refine qm_aload_n E_X8_manySent (by rfl) dX8_manySent_13 ?_
    refine qm_iload_n E_X8_manySent (by rfl) dX8_manySent_14 ?_
    refine qm_iload_n E_X8_manySent (by rfl) dX8_manySent_15 ?_
    obtain ⟨o5, h⟩ := h
    refine qm_callV (As := [.int x3, .int a1]) (rest := [.int x2]) E_X8_manySent rfl M_X8_isSent rfl q2129 q2131 qs53 rfl rfl rfl (Nat.le_of_ble_eq_true rfl) dX8_manySent_16 (C_X8_isSent (d := d) x3 a1 S _ o5 ?_)
    refine qm_if_eq E_X8_manySent 26 dX8_manySent_19 (by decide) (fun (c6 : (f_X8_isSent x3 a1 S) = 0) => ?_) (fun (c6 : ¬ (f_X8_isSent x3 a1 S) = 0) => ?_)
    · have h := h.1 c6
      refine qm_iconst E_X8_manySent 0 (by decide) dX8_manySent_26 ?_
      refine qm_iadd E_X8_manySent dX8_manySent_27 ?_
      refine qm_istore_n E_X8_manySent (by decide) dX8_manySent_28 ?_
      refine qm_iinc E_X8_manySent 1 rfl (by decide) (by decide) dX8_manySent_29 ?_
      refine qm_goto E_X8_manySent 4 dX8_manySent_32 (by decide) ?_
      exact h
    · have h := h.2 c6
      refine qm_iconst E_X8_manySent 1 (by decide) dX8_manySent_22 ?_
      refine qm_goto E_X8_manySent 27 dX8_manySent_23 (by decide) ?_
      refine qm_iadd E_X8_manySent dX8_manySent_27 ?_
      refine qm_istore_n E_X8_manySent (by decide) dX8_manySent_28 ?_
      refine qm_iinc E_X8_manySent 1 rfl (by decide) (by decide) dX8_manySent_29 ?_
      refine qm_goto E_X8_manySent 4 dX8_manySent_32 (by decide) ?_
      exact h
def I_X8_guess : qh_I := (yX8_guess, cX8_guess, 4, (Option.some Jvm.ClassFile.FieldType.int), [])
theorem E_X8_guess : I_X8_guess.2.1 = cX8_guess := rfl
theorem M_X8_guess : qh_M I_X8_guess 1 := ⟨by decide, by decide, by decide +kernel, q95, q2124, by decide⟩
def T_X8_guess (a1 : Int32) (S : qm_S) (K : Int32 → Prop) : Prop := vp_in a1 (qm_len 23) ∧ vp_in (S.2 23 a1.toNatClampNeg) (qm_len 21) ∧ T_X8_manySent a1 S (fun r3 => ∀ X5 : Int32 → Int32 → Prop, (∀ (x6 x7 : Int32), ((x7 ≤ 0 → (1 ≤ x6 → K x6) ∧ (¬ 1 ≤ x6 → K 1)) ∧ (¬ x7 ≤ 0 → X5 (x6 / 2) (x7 + (-1)))) → X5 x6 x7) → X5 (S.2 21 (S.2 23 a1.toNatClampNeg).toNatClampNeg) r3)
set_option maxHeartbeats 4000000 in
theorem C_X8_guess {M : qm_G} {d : Nat} (a1 : Int32) (S : qm_S) (K : Int32 → Prop) (h : T_X8_guess a1 S K) : qm_C M (d + 3) I_X8_guess [.ref M.2.2.1, .int a1] S (fun v S' => ∃ r, v = some (.int r) ∧ S = S' ∧ K r) := by
  refine qm_C.of (by decide) rfl (ls := [some (.ref M.2.2.1), some (.int a1), none, none]) rfl (Nat.le_of_ble_eq_true rfl) (qm_ct rfl) ?_
  unfold T_X8_guess at h
  refine qm_aload_n E_X8_guess (by rfl) dX8_guess_0 ?_
  refine qm_get E_X8_guess rfl 21 (by decide) q1678 (v := .ref (M.2.2.2 21)) rfl dX8_guess_1 ?_
  refine qm_aload_n E_X8_guess (by rfl) dX8_guess_4 ?_
  refine qm_get E_X8_guess rfl 23 (by decide) q1680 (v := .ref (M.2.2.2 23)) rfl dX8_guess_5 ?_
  refine qm_iload_n E_X8_guess (by rfl) dX8_guess_8 ?_
  obtain ⟨o1, h⟩ := h
  refine qm_iald E_X8_guess 23 (by decide) rfl o1 dX8_guess_9 ?_
  obtain ⟨o2, h⟩ := h
  refine qm_iald E_X8_guess 21 (by decide) rfl o2 dX8_guess_10 ?_
  refine qm_istore_n E_X8_guess (by decide) dX8_guess_11 ?_
  refine qm_aload_n E_X8_guess (by rfl) dX8_guess_12 ?_
  refine qm_iload_n E_X8_guess (by rfl) dX8_guess_13 ?_
  refine qm_callV (As := [.int a1]) (rest := []) E_X8_guess rfl M_X8_manySent rfl q2125 q2127 qs52 rfl rfl rfl (Nat.le_of_ble_eq_true rfl) dX8_guess_14 (qm_C.mono ?_ (C_X8_manySent (d := d) a1 S _ h))
  rintro _ _ ⟨r3, rfl, rfl, h⟩
  refine qm_istore_n E_X8_guess (by decide) dX8_guess_17 ?_
  refine h (fun x6 x7 => qm_wp M (d + 3) I_X8_guess 18 [some (.ref M.2.2.1), some (.int a1), some (.int x6), some (.int x7)] [] S (fun v S' => ∃ r, v = some (.int r) ∧ S = S' ∧ K r)) ?_
  intro x6 x7 h
  refine qm_iload_n E_X8_guess (by rfl) dX8_guess_18 ?_
  refine qm_if_le E_X8_guess 32 dX8_guess_19 (by decide) (fun (c8 : x7 ≤ 0) => ?_) (fun (c8 : ¬ x7 ≤ 0) => ?_)
  · have h := h.1 c8
    refine qm_iload_n E_X8_guess (by rfl) dX8_guess_32 ?_
    refine qm_iconst E_X8_guess 1 (by decide) dX8_guess_33 ?_
    refine qm_icmp_ge E_X8_guess 41 dX8_guess_34 (by decide) (fun (c9 : 1 ≤ x6) => ?_) (fun (c9 : ¬ 1 ≤ x6) => ?_)
    · have h := h.1 c9
      refine qm_iload_n E_X8_guess (by rfl) dX8_guess_41 ?_
      exact qm_iret E_X8_guess rfl dX8_guess_42 ⟨_, rfl, rfl, h⟩
    · have h := h.2 c9
      refine qm_iconst E_X8_guess 1 (by decide) dX8_guess_37 ?_
      refine qm_goto E_X8_guess 42 dX8_guess_38 (by decide) ?_
      exact qm_iret E_X8_guess rfl dX8_guess_42 ⟨_, rfl, rfl, h⟩
  · have h := h.2 c8
    refine qm_iload_n E_X8_guess (by rfl) dX8_guess_22 ?_
    refine qm_iconst E_X8_guess 2 (by decide) dX8_guess_23 ?_
    refine qm_idiv E_X8_guess (by decide) dX8_guess_24 ?_
    refine qm_istore_n E_X8_guess (by decide) dX8_guess_25 ?_
    refine qm_iinc E_X8_guess (-1) rfl (by decide) (by decide) dX8_guess_26 ?_
    refine qm_goto E_X8_guess 18 dX8_guess_29 (by decide) ?_
    exact h
def I_X8_nextSeat : qh_I := (yX8_nextSeat, cX8_nextSeat, 6, (Option.some Jvm.ClassFile.FieldType.int), [])
theorem E_X8_nextSeat : I_X8_nextSeat.2.1 = cX8_nextSeat := rfl
theorem M_X8_nextSeat : qh_M I_X8_nextSeat 0 := ⟨by decide, by decide, by decide +kernel, q95, q2116, by decide⟩
def T_X8_nextSeat (S : qm_S) (K : Int32 → Prop) : Prop := ∀ X1 : Int32 → Int32 → Int32 → Prop, (∀ (x2 x3 x4 : Int32), (((S.1 22) ≤ x4 → K x2) ∧ (¬ (S.1 22) ≤ x4 → vp_in x4 (qm_len 56) ∧ (¬ (S.2 56 x4.toNatClampNeg) = 0 → X1 x2 x3 (x4 + 1)) ∧ ((S.2 56 x4.toNatClampNeg) = 0 → T_X8_linkOf x4 S (fun r8 => ∀ J27 : Int32 → Prop, (∀ (x28 : Int32), ((¬ x3 = 0 → X1 ((if x28 = 0 then x2 else x4)) 1 (x4 + 1)) ∧ (x3 = 0 → (((if r8 = ((-1)) then (0 : Int32) else (1 : Int32))) = 0 → X1 ((if x28 = 0 then x2 else x4)) 0 (x4 + 1)) ∧ (¬ ((if r8 = ((-1)) then (0 : Int32) else (1 : Int32))) = 0 → X1 ((if x28 = 0 then x2 else x4)) 1 (x4 + 1)))) → J27 x28) → (x2 = ((-1)) → J27 1) ∧ (¬ x2 = ((-1)) → (((if r8 = ((-1)) then (0 : Int32) else (1 : Int32))) = 0 → (¬ ((if r8 = ((-1)) then (0 : Int32) else (1 : Int32))) = x3 → J27 0) ∧ (((if r8 = ((-1)) then (0 : Int32) else (1 : Int32))) = x3 → T_X8_guess x4 S (fun r15 => T_X8_guess x2 S (fun r17 => (r17 ≤ r15 → J27 0) ∧ (¬ r17 ≤ r15 → J27 1))))) ∧ (¬ ((if r8 = ((-1)) then (0 : Int32) else (1 : Int32))) = 0 → (x3 = 0 → J27 1) ∧ (¬ x3 = 0 → (¬ ((if r8 = ((-1)) then (0 : Int32) else (1 : Int32))) = x3 → J27 0) ∧ (((if r8 = ((-1)) then (0 : Int32) else (1 : Int32))) = x3 → T_X8_guess x4 S (fun r22 => T_X8_guess x2 S (fun r24 => (r24 ≤ r22 → J27 0) ∧ (¬ r24 ≤ r22 → J27 1))))))))))) → X1 x2 x3 x4) → X1 ((-1)) 0 0
set_option maxHeartbeats 4000000 in
theorem C_X8_nextSeat {M : qm_G} {d : Nat} (S : qm_S) (K : Int32 → Prop) (h : T_X8_nextSeat  S K) : qm_C M (d + 4) I_X8_nextSeat [.ref M.2.2.1] S (fun v S' => ∃ r, v = some (.int r) ∧ S = S' ∧ K r) := by
  refine qm_C.of (by decide) rfl (ls := [some (.ref M.2.2.1), none, none, none, none, none]) rfl (Nat.le_of_ble_eq_true rfl) (qm_ct rfl) ?_
  unfold T_X8_nextSeat at h
  refine qm_iconst E_X8_nextSeat (-1) (by decide) dX8_nextSeat_0 ?_
  refine qm_istore_n E_X8_nextSeat (by decide) dX8_nextSeat_1 ?_
  refine qm_iconst E_X8_nextSeat 0 (by decide) dX8_nextSeat_2 ?_
  refine qm_istore_n E_X8_nextSeat (by decide) dX8_nextSeat_3 ?_
  refine qm_iconst E_X8_nextSeat 0 (by decide) dX8_nextSeat_4 ?_
  refine qm_istore_n E_X8_nextSeat (by decide) dX8_nextSeat_5 ?_
  refine h (fun x2 x3 x4 => qm_wp M (d + 4) I_X8_nextSeat 6 [some (.ref M.2.2.1), some (.int x2), some (.int x3), some (.int x4), none, none] [] S (fun v S' => ∃ r, v = some (.int r) ∧ S = S' ∧ K r)) ?_
  intro x2 x3 x4 h
  refine qm_iload_n E_X8_nextSeat (by rfl) dX8_nextSeat_6 ?_
  refine qm_aload_n E_X8_nextSeat (by rfl) dX8_nextSeat_7 ?_
  refine qm_get E_X8_nextSeat rfl 22 (by decide) q1679 (v := .int (S.1 22)) rfl dX8_nextSeat_8 ?_
  refine qm_icmp_ge E_X8_nextSeat 111 dX8_nextSeat_11 (by decide) (fun (c5 : (S.1 22) ≤ x4) => ?_) (fun (c5 : ¬ (S.1 22) ≤ x4) => ?_)
  · have h := h.1 c5
    refine qm_iload_n E_X8_nextSeat (by rfl) dX8_nextSeat_111 ?_
    exact qm_iret E_X8_nextSeat rfl dX8_nextSeat_112 ⟨_, rfl, rfl, h⟩
  · have h := h.2 c5
    refine qm_aload_n E_X8_nextSeat (by rfl) dX8_nextSeat_14 ?_
    refine qm_get E_X8_nextSeat rfl 56 (by decide) q1713 (v := .ref (M.2.2.2 56)) rfl dX8_nextSeat_15 ?_
    refine qm_iload_n E_X8_nextSeat (by rfl) dX8_nextSeat_18 ?_
    obtain ⟨o6, h⟩ := h
    refine qm_zald E_X8_nextSeat 56 (by decide) rfl o6 dX8_nextSeat_19 ?_
    refine qm_if_ne E_X8_nextSeat 105 dX8_nextSeat_20 (by decide) (fun (c7 : ¬ (S.2 56 x4.toNatClampNeg) = 0) => ?_) (fun (c7 : (S.2 56 x4.toNatClampNeg) = 0) => ?_)
    · have h := h.1 c7
      refine qm_iinc E_X8_nextSeat 1 rfl (by decide) (by decide) dX8_nextSeat_105 ?_
      refine qm_goto E_X8_nextSeat 6 dX8_nextSeat_108 (by decide) ?_
      exact h
    · have h := h.2 c7
      refine qm_aload_n E_X8_nextSeat (by rfl) dX8_nextSeat_23 ?_
      refine qm_iload_n E_X8_nextSeat (by rfl) dX8_nextSeat_24 ?_
      refine qm_callV (As := [.int x4]) (rest := []) E_X8_nextSeat rfl M_X8_linkOf rfl q2117 q2119 qs50 rfl rfl rfl (Nat.le_of_ble_eq_true rfl) dX8_nextSeat_25 (qm_C.mono ?_ (C_X8_linkOf (d := d + 3) x4 S _ h))
      rintro _ _ ⟨r8, rfl, rfl, h⟩
      refine qm_iconst E_X8_nextSeat (-1) (by decide) dX8_nextSeat_28 ?_
      have Jv11 : ∀ v11 : Int32, v11 = (if r8 = ((-1)) then (0 : Int32) else (1 : Int32)) → qm_wp M (d + 4) I_X8_nextSeat 37 [some (.ref M.2.2.1), some (.int x2), some (.int x3), some (.int x4), none, none] [.int v11] S (fun v S' => ∃ r, v = some (.int r) ∧ S = S' ∧ K r) := by
        rintro _ rfl
        refine qm_istore E_X8_nextSeat (by decide) dX8_nextSeat_37 ?_
        refine qm_iload_n E_X8_nextSeat (by rfl) dX8_nextSeat_39 ?_
        refine qm_iconst E_X8_nextSeat (-1) (by decide) dX8_nextSeat_40 ?_
        have h := h (fun x28 => qm_wp M (d + 4) I_X8_nextSeat 77 [some (.ref M.2.2.1), some (.int x2), some (.int x3), some (.int x4), some (.int ((if r8 = ((-1)) then (0 : Int32) else (1 : Int32)))), none] [.int x28] S (fun v S' => ∃ r, v = some (.int r) ∧ S = S' ∧ K r)) (by
          intro x28 h
          refine qm_istore E_X8_nextSeat (by decide) dX8_nextSeat_77 ?_
          refine qm_iload E_X8_nextSeat (by rfl) dX8_nextSeat_79 ?_
          have Jv30 : ∀ v30 : Int32, v30 = (if x28 = 0 then x2 else x4) → qm_wp M (d + 4) I_X8_nextSeat 89 [some (.ref M.2.2.1), some (.int x2), some (.int x3), some (.int x4), some (.int ((if r8 = ((-1)) then (0 : Int32) else (1 : Int32)))), some (.int x28)] [.int v30] S (fun v S' => ∃ r, v = some (.int r) ∧ S = S' ∧ K r) := by
            rintro _ rfl
            refine qm_istore_n E_X8_nextSeat (by decide) dX8_nextSeat_89 ?_
            refine qm_iload_n E_X8_nextSeat (by rfl) dX8_nextSeat_90 ?_
            refine qm_if_ne E_X8_nextSeat 99 dX8_nextSeat_91 (by decide) (fun (c31 : ¬ x3 = 0) => ?_) (fun (c31 : x3 = 0) => ?_)
            · have h := h.1 c31
              refine qm_iconst E_X8_nextSeat 1 (by decide) dX8_nextSeat_99 ?_
              refine qm_goto E_X8_nextSeat 104 dX8_nextSeat_100 (by decide) ?_
              refine qm_istore_n E_X8_nextSeat (by decide) dX8_nextSeat_104 ?_
              refine qm_iinc E_X8_nextSeat 1 rfl (by decide) (by decide) dX8_nextSeat_105 ?_
              refine qm_goto E_X8_nextSeat 6 dX8_nextSeat_108 (by decide) ?_
              refine qm_drop 4 ?_
              refine qm_drop 5 ?_
              exact h
            · have h := h.2 c31
              refine qm_iload E_X8_nextSeat (by rfl) dX8_nextSeat_94 ?_
              refine qm_if_eq E_X8_nextSeat 103 dX8_nextSeat_96 (by decide) (fun (c32 : ((if r8 = ((-1)) then (0 : Int32) else (1 : Int32))) = 0) => ?_) (fun (c32 : ¬ ((if r8 = ((-1)) then (0 : Int32) else (1 : Int32))) = 0) => ?_)
              · have h := h.1 c32
                refine qm_iconst E_X8_nextSeat 0 (by decide) dX8_nextSeat_103 ?_
                refine qm_istore_n E_X8_nextSeat (by decide) dX8_nextSeat_104 ?_
                refine qm_iinc E_X8_nextSeat 1 rfl (by decide) (by decide) dX8_nextSeat_105 ?_
                refine qm_goto E_X8_nextSeat 6 dX8_nextSeat_108 (by decide) ?_
                refine qm_drop 4 ?_
                refine qm_drop 5 ?_
                exact h
              · have h := h.2 c32
                refine qm_iconst E_X8_nextSeat 1 (by decide) dX8_nextSeat_99 ?_
                refine qm_goto E_X8_nextSeat 104 dX8_nextSeat_100 (by decide) ?_
                refine qm_istore_n E_X8_nextSeat (by decide) dX8_nextSeat_104 ?_
                refine qm_iinc E_X8_nextSeat 1 rfl (by decide) (by decide) dX8_nextSeat_105 ?_
                refine qm_goto E_X8_nextSeat 6 dX8_nextSeat_108 (by decide) ?_
                refine qm_drop 4 ?_
                refine qm_drop 5 ?_
                exact h
          refine qm_if_eq E_X8_nextSeat 88 dX8_nextSeat_81 (by decide) (fun (c29 : x28 = 0) => ?_) (fun (c29 : ¬ x28 = 0) => ?_)
          · refine qm_iload_n E_X8_nextSeat (by rfl) dX8_nextSeat_88 ?_
            exact Jv30 (x2) (by rw [if_pos c29])
          · refine qm_iload_n E_X8_nextSeat (by rfl) dX8_nextSeat_84 ?_
            refine qm_goto E_X8_nextSeat 89 dX8_nextSeat_85 (by decide) ?_
            exact Jv30 (x4) (by rw [if_neg c29]))
        refine qm_icmp_eq E_X8_nextSeat 72 dX8_nextSeat_41 (by decide) (fun (c12 : x2 = ((-1))) => ?_) (fun (c12 : ¬ x2 = ((-1))) => ?_)
        · have h := h.1 c12
          refine qm_iconst E_X8_nextSeat 1 (by decide) dX8_nextSeat_72 ?_
          refine qm_goto E_X8_nextSeat 77 dX8_nextSeat_73 (by decide) ?_
          exact h
        · have h := h.2 c12
          refine qm_iload E_X8_nextSeat (by rfl) dX8_nextSeat_44 ?_
          refine qm_if_eq E_X8_nextSeat 53 dX8_nextSeat_46 (by decide) (fun (c13 : ((if r8 = ((-1)) then (0 : Int32) else (1 : Int32))) = 0) => ?_) (fun (c13 : ¬ ((if r8 = ((-1)) then (0 : Int32) else (1 : Int32))) = 0) => ?_)
          · have h := h.1 c13
            refine qm_iload E_X8_nextSeat (by rfl) dX8_nextSeat_53 ?_
            refine qm_iload_n E_X8_nextSeat (by rfl) dX8_nextSeat_55 ?_
            refine qm_icmp_ne E_X8_nextSeat 76 dX8_nextSeat_56 (by decide) (fun (c14 : ¬ ((if r8 = ((-1)) then (0 : Int32) else (1 : Int32))) = x3) => ?_) (fun (c14 : ((if r8 = ((-1)) then (0 : Int32) else (1 : Int32))) = x3) => ?_)
            · have h := h.1 c14
              refine qm_iconst E_X8_nextSeat 0 (by decide) dX8_nextSeat_76 ?_
              exact h
            · have h := h.2 c14
              refine qm_aload_n E_X8_nextSeat (by rfl) dX8_nextSeat_59 ?_
              refine qm_iload_n E_X8_nextSeat (by rfl) dX8_nextSeat_60 ?_
              refine qm_callV (As := [.int x4]) (rest := []) E_X8_nextSeat rfl M_X8_guess rfl q2121 q2123 qs51 rfl rfl rfl (Nat.le_of_ble_eq_true rfl) dX8_nextSeat_61 (qm_C.mono ?_ (C_X8_guess (d := d) x4 S _ h))
              rintro _ _ ⟨r15, rfl, rfl, h⟩
              refine qm_aload_n E_X8_nextSeat (by rfl) dX8_nextSeat_64 ?_
              refine qm_iload_n E_X8_nextSeat (by rfl) dX8_nextSeat_65 ?_
              refine qm_callV (As := [.int x2]) (rest := [.int r15]) E_X8_nextSeat rfl M_X8_guess rfl q2121 q2123 qs51 rfl rfl rfl (Nat.le_of_ble_eq_true rfl) dX8_nextSeat_66 (qm_C.mono ?_ (C_X8_guess (d := d) x2 S _ h))
              rintro _ _ ⟨r17, rfl, rfl, h⟩
              refine qm_icmp_ge E_X8_nextSeat 76 dX8_nextSeat_69 (by decide) (fun (c19 : r17 ≤ r15) => ?_) (fun (c19 : ¬ r17 ≤ r15) => ?_)
              · have h := h.1 c19
                refine qm_iconst E_X8_nextSeat 0 (by decide) dX8_nextSeat_76 ?_
                exact h
              · have h := h.2 c19
                refine qm_iconst E_X8_nextSeat 1 (by decide) dX8_nextSeat_72 ?_
                refine qm_goto E_X8_nextSeat 77 dX8_nextSeat_73 (by decide) ?_
                exact h
          · have h := h.2 c13
            refine qm_iload_n E_X8_nextSeat (by rfl) dX8_nextSeat_49 ?_
            refine qm_if_eq E_X8_nextSeat 72 dX8_nextSeat_50 (by decide) (fun (c20 : x3 = 0) => ?_) (fun (c20 : ¬ x3 = 0) => ?_)
            · have h := h.1 c20
              refine qm_iconst E_X8_nextSeat 1 (by decide) dX8_nextSeat_72 ?_
              refine qm_goto E_X8_nextSeat 77 dX8_nextSeat_73 (by decide) ?_
              exact h
            · have h := h.2 c20
              refine qm_iload E_X8_nextSeat (by rfl) dX8_nextSeat_53 ?_
              refine qm_iload_n E_X8_nextSeat (by rfl) dX8_nextSeat_55 ?_
              refine qm_icmp_ne E_X8_nextSeat 76 dX8_nextSeat_56 (by decide) (fun (c21 : ¬ ((if r8 = ((-1)) then (0 : Int32) else (1 : Int32))) = x3) => ?_) (fun (c21 : ((if r8 = ((-1)) then (0 : Int32) else (1 : Int32))) = x3) => ?_)
              · have h := h.1 c21
                refine qm_iconst E_X8_nextSeat 0 (by decide) dX8_nextSeat_76 ?_
                exact h
              · have h := h.2 c21
                refine qm_aload_n E_X8_nextSeat (by rfl) dX8_nextSeat_59 ?_
                refine qm_iload_n E_X8_nextSeat (by rfl) dX8_nextSeat_60 ?_
                refine qm_callV (As := [.int x4]) (rest := []) E_X8_nextSeat rfl M_X8_guess rfl q2121 q2123 qs51 rfl rfl rfl (Nat.le_of_ble_eq_true rfl) dX8_nextSeat_61 (qm_C.mono ?_ (C_X8_guess (d := d) x4 S _ h))
                rintro _ _ ⟨r22, rfl, rfl, h⟩
                refine qm_aload_n E_X8_nextSeat (by rfl) dX8_nextSeat_64 ?_
                refine qm_iload_n E_X8_nextSeat (by rfl) dX8_nextSeat_65 ?_
                refine qm_callV (As := [.int x2]) (rest := [.int r22]) E_X8_nextSeat rfl M_X8_guess rfl q2121 q2123 qs51 rfl rfl rfl (Nat.le_of_ble_eq_true rfl) dX8_nextSeat_66 (qm_C.mono ?_ (C_X8_guess (d := d) x2 S _ h))
                rintro _ _ ⟨r24, rfl, rfl, h⟩
                refine qm_icmp_ge E_X8_nextSeat 76 dX8_nextSeat_69 (by decide) (fun (c26 : r24 ≤ r22) => ?_) (fun (c26 : ¬ r24 ≤ r22) => ?_)
                · have h := h.1 c26
                  refine qm_iconst E_X8_nextSeat 0 (by decide) dX8_nextSeat_76 ?_
                  exact h
                · have h := h.2 c26
                  refine qm_iconst E_X8_nextSeat 1 (by decide) dX8_nextSeat_72 ?_
                  refine qm_goto E_X8_nextSeat 77 dX8_nextSeat_73 (by decide) ?_
                  exact h
      refine qm_icmp_eq E_X8_nextSeat 36 dX8_nextSeat_29 (by decide) (fun (c10 : r8 = ((-1))) => ?_) (fun (c10 : ¬ r8 = ((-1))) => ?_)
      · refine qm_iconst E_X8_nextSeat 0 (by decide) dX8_nextSeat_36 ?_
        exact Jv11 ((0 : Int32)) (by rw [if_pos c10])
      · refine qm_iconst E_X8_nextSeat 1 (by decide) dX8_nextSeat_32 ?_
        refine qm_goto E_X8_nextSeat 37 dX8_nextSeat_33 (by decide) ?_
        exact Jv11 ((1 : Int32)) (by rw [if_neg c10])
def I_X8_follows : qh_I := (yX8_follows, cX8_follows, 4, (Option.some Jvm.ClassFile.FieldType.boolean), [])
theorem E_X8_follows : I_X8_follows.2.1 = cX8_follows := rfl
theorem M_X8_follows : qh_M I_X8_follows 4 := ⟨by decide, by decide, by decide +kernel, q95, q2150, by decide⟩
def f_X8_follows (a1 a2 a3 a4 : Int32) : Int32 := if a1 = 1 then if a3 = 1 then if a4 ≤ a2 then (1 : Int32) else if a3 = 0 then if a2 ≤ a4 then (0 : Int32) else (1 : Int32) else (0 : Int32) else if a3 = 0 then if a2 ≤ a4 then (0 : Int32) else (1 : Int32) else (0 : Int32) else if a1 = 2 then if a3 = 2 then if a2 ≤ a4 then (1 : Int32) else if a3 = 0 then if a4 ≤ a2 then (0 : Int32) else (1 : Int32) else (0 : Int32) else if a3 = 0 then if a4 ≤ a2 then (0 : Int32) else (1 : Int32) else (0 : Int32) else if a3 = a1 then if a4 = a2 then (1 : Int32) else (0 : Int32) else (0 : Int32)
theorem z_X8_follows (a1 a2 a3 a4 : Int32) : (f_X8_follows a1 a2 a3 a4) = 0 ∨ (f_X8_follows a1 a2 a3 a4) = 1 := (qm_zi (qm_zi (qm_zi (Or.inr rfl) (qm_zi (qm_zi (Or.inl rfl) (Or.inr rfl)) (Or.inl rfl))) (qm_zi (qm_zi (Or.inl rfl) (Or.inr rfl)) (Or.inl rfl))) (qm_zi (qm_zi (qm_zi (Or.inr rfl) (qm_zi (qm_zi (Or.inl rfl) (Or.inr rfl)) (Or.inl rfl))) (qm_zi (qm_zi (Or.inl rfl) (Or.inr rfl)) (Or.inl rfl))) (qm_zi (qm_zi (Or.inr rfl) (Or.inl rfl)) (Or.inl rfl))))
set_option maxHeartbeats 4000000 in
theorem C_X8_follows {M : qm_G} {d : Nat} (a1 a2 a3 a4 : Int32) (S : qm_S) (Q : Option Value → qm_S → Prop) (hq : Q (some (.int (f_X8_follows a1 a2 a3 a4))) S) : qm_C M (d + 0) I_X8_follows [.int a1, .int a2, .int a3, .int a4] S Q := by
  refine qm_C.of (by decide) rfl (ls := [some (.int a1), some (.int a2), some (.int a3), some (.int a4)]) rfl (Nat.le_of_ble_eq_true rfl) (qm_ct rfl) ?_
  unfold f_X8_follows at hq
  refine qm_iload_n E_X8_follows (by rfl) dX8_follows_0 ?_
  refine qm_iconst E_X8_follows 1 (by decide) dX8_follows_1 ?_
  refine qm_icmp_ne E_X8_follows 30 dX8_follows_2 (by decide) (fun (c1 : ¬ a1 = 1) => ?_) (fun (c1 : a1 = 1) => ?_)
  · rw [if_neg c1] at hq
    refine qm_iload_n E_X8_follows (by rfl) dX8_follows_30 ?_
    refine qm_iconst E_X8_follows 2 (by decide) dX8_follows_31 ?_
    refine qm_icmp_ne E_X8_follows 60 dX8_follows_32 (by decide) (fun (c2 : ¬ a1 = 2) => ?_) (fun (c2 : a1 = 2) => ?_)
    · rw [if_neg c2] at hq
      refine qm_iload_n E_X8_follows (by rfl) dX8_follows_60 ?_
      refine qm_iload_n E_X8_follows (by rfl) dX8_follows_61 ?_
      refine qm_icmp_ne E_X8_follows 74 dX8_follows_62 (by decide) (fun (c3 : ¬ a3 = a1) => ?_) (fun (c3 : a3 = a1) => ?_)
      · rw [if_neg c3] at hq
        refine qm_iconst E_X8_follows 0 (by decide) dX8_follows_74 ?_
        exact qm_zret E_X8_follows rfl (qm_nb (Or.inl rfl)) dX8_follows_75 hq
      · rw [if_pos c3] at hq
        refine qm_iload_n E_X8_follows (by rfl) dX8_follows_65 ?_
        refine qm_iload_n E_X8_follows (by rfl) dX8_follows_66 ?_
        refine qm_icmp_ne E_X8_follows 74 dX8_follows_67 (by decide) (fun (c4 : ¬ a4 = a2) => ?_) (fun (c4 : a4 = a2) => ?_)
        · rw [if_neg c4] at hq
          refine qm_iconst E_X8_follows 0 (by decide) dX8_follows_74 ?_
          exact qm_zret E_X8_follows rfl (qm_nb (Or.inl rfl)) dX8_follows_75 hq
        · rw [if_pos c4] at hq
          refine qm_iconst E_X8_follows 1 (by decide) dX8_follows_70 ?_
          refine qm_goto E_X8_follows 75 dX8_follows_71 (by decide) ?_
          exact qm_zret E_X8_follows rfl (qm_nb (Or.inr rfl)) dX8_follows_75 hq
    · rw [if_pos c2] at hq
      refine qm_iload_n E_X8_follows (by rfl) dX8_follows_35 ?_
      refine qm_iconst E_X8_follows 2 (by decide) dX8_follows_36 ?_
      refine qm_icmp_ne E_X8_follows 45 dX8_follows_37 (by decide) (fun (c5 : ¬ a3 = 2) => ?_) (fun (c5 : a3 = 2) => ?_)
      · rw [if_neg c5] at hq
        refine qm_iload_n E_X8_follows (by rfl) dX8_follows_45 ?_
        refine qm_if_ne E_X8_follows 58 dX8_follows_46 (by decide) (fun (c6 : ¬ a3 = 0) => ?_) (fun (c6 : a3 = 0) => ?_)
        · rw [if_neg c6] at hq
          refine qm_iconst E_X8_follows 0 (by decide) dX8_follows_58 ?_
          exact qm_zret E_X8_follows rfl (qm_nb (Or.inl rfl)) dX8_follows_59 hq
        · rw [if_pos c6] at hq
          refine qm_iload_n E_X8_follows (by rfl) dX8_follows_49 ?_
          refine qm_iload_n E_X8_follows (by rfl) dX8_follows_50 ?_
          refine qm_icmp_le E_X8_follows 58 dX8_follows_51 (by decide) (fun (c7 : a4 ≤ a2) => ?_) (fun (c7 : ¬ a4 ≤ a2) => ?_)
          · rw [if_pos c7] at hq
            refine qm_iconst E_X8_follows 0 (by decide) dX8_follows_58 ?_
            exact qm_zret E_X8_follows rfl (qm_nb (Or.inl rfl)) dX8_follows_59 hq
          · rw [if_neg c7] at hq
            refine qm_iconst E_X8_follows 1 (by decide) dX8_follows_54 ?_
            refine qm_goto E_X8_follows 59 dX8_follows_55 (by decide) ?_
            exact qm_zret E_X8_follows rfl (qm_nb (Or.inr rfl)) dX8_follows_59 hq
      · rw [if_pos c5] at hq
        refine qm_iload_n E_X8_follows (by rfl) dX8_follows_40 ?_
        refine qm_iload_n E_X8_follows (by rfl) dX8_follows_41 ?_
        refine qm_icmp_ge E_X8_follows 54 dX8_follows_42 (by decide) (fun (c8 : a2 ≤ a4) => ?_) (fun (c8 : ¬ a2 ≤ a4) => ?_)
        · rw [if_pos c8] at hq
          refine qm_iconst E_X8_follows 1 (by decide) dX8_follows_54 ?_
          refine qm_goto E_X8_follows 59 dX8_follows_55 (by decide) ?_
          exact qm_zret E_X8_follows rfl (qm_nb (Or.inr rfl)) dX8_follows_59 hq
        · rw [if_neg c8] at hq
          refine qm_iload_n E_X8_follows (by rfl) dX8_follows_45 ?_
          refine qm_if_ne E_X8_follows 58 dX8_follows_46 (by decide) (fun (c9 : ¬ a3 = 0) => ?_) (fun (c9 : a3 = 0) => ?_)
          · rw [if_neg c9] at hq
            refine qm_iconst E_X8_follows 0 (by decide) dX8_follows_58 ?_
            exact qm_zret E_X8_follows rfl (qm_nb (Or.inl rfl)) dX8_follows_59 hq
          · rw [if_pos c9] at hq
            refine qm_iload_n E_X8_follows (by rfl) dX8_follows_49 ?_
            refine qm_iload_n E_X8_follows (by rfl) dX8_follows_50 ?_
            refine qm_icmp_le E_X8_follows 58 dX8_follows_51 (by decide) (fun (c10 : a4 ≤ a2) => ?_) (fun (c10 : ¬ a4 ≤ a2) => ?_)
            · rw [if_pos c10] at hq
              refine qm_iconst E_X8_follows 0 (by decide) dX8_follows_58 ?_
              exact qm_zret E_X8_follows rfl (qm_nb (Or.inl rfl)) dX8_follows_59 hq
            · rw [if_neg c10] at hq
              refine qm_iconst E_X8_follows 1 (by decide) dX8_follows_54 ?_
              refine qm_goto E_X8_follows 59 dX8_follows_55 (by decide) ?_
              exact qm_zret E_X8_follows rfl (qm_nb (Or.inr rfl)) dX8_follows_59 hq
  · rw [if_pos c1] at hq
    refine qm_iload_n E_X8_follows (by rfl) dX8_follows_5 ?_
    refine qm_iconst E_X8_follows 1 (by decide) dX8_follows_6 ?_
    refine qm_icmp_ne E_X8_follows 15 dX8_follows_7 (by decide) (fun (c11 : ¬ a3 = 1) => ?_) (fun (c11 : a3 = 1) => ?_)
    · rw [if_neg c11] at hq
      refine qm_iload_n E_X8_follows (by rfl) dX8_follows_15 ?_
      refine qm_if_ne E_X8_follows 28 dX8_follows_16 (by decide) (fun (c12 : ¬ a3 = 0) => ?_) (fun (c12 : a3 = 0) => ?_)
      · rw [if_neg c12] at hq
        refine qm_iconst E_X8_follows 0 (by decide) dX8_follows_28 ?_
        exact qm_zret E_X8_follows rfl (qm_nb (Or.inl rfl)) dX8_follows_29 hq
      · rw [if_pos c12] at hq
        refine qm_iload_n E_X8_follows (by rfl) dX8_follows_19 ?_
        refine qm_iload_n E_X8_follows (by rfl) dX8_follows_20 ?_
        refine qm_icmp_ge E_X8_follows 28 dX8_follows_21 (by decide) (fun (c13 : a2 ≤ a4) => ?_) (fun (c13 : ¬ a2 ≤ a4) => ?_)
        · rw [if_pos c13] at hq
          refine qm_iconst E_X8_follows 0 (by decide) dX8_follows_28 ?_
          exact qm_zret E_X8_follows rfl (qm_nb (Or.inl rfl)) dX8_follows_29 hq
        · rw [if_neg c13] at hq
          refine qm_iconst E_X8_follows 1 (by decide) dX8_follows_24 ?_
          refine qm_goto E_X8_follows 29 dX8_follows_25 (by decide) ?_
          exact qm_zret E_X8_follows rfl (qm_nb (Or.inr rfl)) dX8_follows_29 hq
    · rw [if_pos c11] at hq
      refine qm_iload_n E_X8_follows (by rfl) dX8_follows_10 ?_
      refine qm_iload_n E_X8_follows (by rfl) dX8_follows_11 ?_
      refine qm_icmp_le E_X8_follows 24 dX8_follows_12 (by decide) (fun (c14 : a4 ≤ a2) => ?_) (fun (c14 : ¬ a4 ≤ a2) => ?_)
      · rw [if_pos c14] at hq
        refine qm_iconst E_X8_follows 1 (by decide) dX8_follows_24 ?_
        refine qm_goto E_X8_follows 29 dX8_follows_25 (by decide) ?_
        exact qm_zret E_X8_follows rfl (qm_nb (Or.inr rfl)) dX8_follows_29 hq
      · rw [if_neg c14] at hq
        refine qm_iload_n E_X8_follows (by rfl) dX8_follows_15 ?_
        refine qm_if_ne E_X8_follows 28 dX8_follows_16 (by decide) (fun (c15 : ¬ a3 = 0) => ?_) (fun (c15 : a3 = 0) => ?_)
        · rw [if_neg c15] at hq
          refine qm_iconst E_X8_follows 0 (by decide) dX8_follows_28 ?_
          exact qm_zret E_X8_follows rfl (qm_nb (Or.inl rfl)) dX8_follows_29 hq
        · rw [if_pos c15] at hq
          refine qm_iload_n E_X8_follows (by rfl) dX8_follows_19 ?_
          refine qm_iload_n E_X8_follows (by rfl) dX8_follows_20 ?_
          refine qm_icmp_ge E_X8_follows 28 dX8_follows_21 (by decide) (fun (c16 : a2 ≤ a4) => ?_) (fun (c16 : ¬ a2 ≤ a4) => ?_)
          · rw [if_pos c16] at hq
            refine qm_iconst E_X8_follows 0 (by decide) dX8_follows_28 ?_
            exact qm_zret E_X8_follows rfl (qm_nb (Or.inl rfl)) dX8_follows_29 hq
          · rw [if_neg c16] at hq
            refine qm_iconst E_X8_follows 1 (by decide) dX8_follows_24 ?_
            refine qm_goto E_X8_follows 29 dX8_follows_25 (by decide) ?_
            exact qm_zret E_X8_follows rfl (qm_nb (Or.inr rfl)) dX8_follows_29 hq
def I_X8_canServe : qh_I := (yX8_canServe, cX8_canServe, 8, (Option.some Jvm.ClassFile.FieldType.boolean), [])
theorem E_X8_canServe : I_X8_canServe.2.1 = cX8_canServe := rfl
theorem M_X8_canServe : qh_M I_X8_canServe 2 := ⟨by decide, by decide, by decide +kernel, q95, q2147, by decide⟩
def T_X8_canServe (a1 a2 : Int32) (S : qm_S) (K : Int32 → Prop) : Prop := vp_in a1 (qm_len 40) ∧ vp_in a2 (qm_len 23) ∧ ((¬ (S.2 40 a1.toNatClampNeg) = (S.2 23 a2.toNatClampNeg) → True) ∧ ((S.2 40 a1.toNatClampNeg) = (S.2 23 a2.toNatClampNeg) → vp_in a1 (qm_len 41))) ∧ ∀ X7 : Int32 → Int32 → Prop, (∀ (x8 x9 : Int32), (vp_in a1 (qm_len 48) ∧ (((4 * a1) + (S.2 48 a1.toNatClampNeg)) ≤ x9 → (x8 = 0 ∨ x8 = 1) ∧ K x8) ∧ (¬ ((4 * a1) + (S.2 48 a1.toNatClampNeg)) ≤ x9 → ∀ X13 : Int32 → Int32 → Prop, (∀ (x14 x15 : Int32), (((S.1 29) ≤ x15 → (x8 = 0 → X7 0 (x9 + 1)) ∧ (¬ x8 = 0 → (x14 = 0 → X7 0 (x9 + 1)) ∧ (¬ x14 = 0 → X7 1 (x9 + 1)))) ∧ (¬ (S.1 29) ≤ x15 → p_X8_isSent x15 a2 S ∧ (((f_X8_isSent x15 a2 S) = 0 → True) ∧ (¬ (f_X8_isSent x15 a2 S) = 0 → vp_in x15 (qm_len 31) ∧ vp_in x9 (qm_len 49))) ∧ (¬ x14 = 0 → X13 1 (x15 + 1)) ∧ (x14 = 0 → (((if (f_X8_isSent x15 a2 S) = 0 then (0 : Int32) else if (S.2 31 x15.toNatClampNeg) = (S.2 49 x9.toNatClampNeg) then (1 : Int32) else (0 : Int32))) = 0 → X13 0 (x15 + 1)) ∧ (¬ ((if (f_X8_isSent x15 a2 S) = 0 then (0 : Int32) else if (S.2 31 x15.toNatClampNeg) = (S.2 49 x9.toNatClampNeg) then (1 : Int32) else (0 : Int32))) = 0 → vp_in x9 (qm_len 50) ∧ vp_in x9 (qm_len 51) ∧ vp_in x15 (qm_len 32) ∧ vp_in x15 (qm_len 33) ∧ ((f_X8_follows (S.2 50 x9.toNatClampNeg) (S.2 51 x9.toNatClampNeg) (S.2 32 x15.toNatClampNeg) (S.2 33 x15.toNatClampNeg)) = 0 → X13 0 (x15 + 1)) ∧ (¬ (f_X8_follows (S.2 50 x9.toNatClampNeg) (S.2 51 x9.toNatClampNeg) (S.2 32 x15.toNatClampNeg) (S.2 33 x15.toNatClampNeg)) = 0 → X13 1 (x15 + 1)))))) → X13 x14 x15) → X13 0 0)) → X7 x8 x9) → X7 ((if (S.2 40 a1.toNatClampNeg) = (S.2 23 a2.toNatClampNeg) then if (S.1 53) < ((S.1 8) - (S.2 41 a1.toNatClampNeg)) then (0 : Int32) else (1 : Int32) else (0 : Int32))) (4 * a1)
set_option maxHeartbeats 4000000 in
theorem C_X8_canServe {M : qm_G} {d : Nat} (a1 a2 : Int32) (S : qm_S) (K : Int32 → Prop) (h : T_X8_canServe a1 a2 S K) : qm_C M (d + 2) I_X8_canServe [.ref M.2.2.1, .int a1, .int a2] S (fun v S' => ∃ r, v = some (.int r) ∧ (r = 0 ∨ r = 1) ∧ S = S' ∧ K r) := by
  refine qm_C.of (by decide) rfl (ls := [some (.ref M.2.2.1), some (.int a1), some (.int a2), none, none, none, none, none]) rfl (Nat.le_of_ble_eq_true rfl) (qm_ct rfl) ?_
  unfold T_X8_canServe at h
  refine qm_aload_n E_X8_canServe (by rfl) dX8_canServe_0 ?_
  refine qm_get E_X8_canServe rfl 40 (by decide) q1697 (v := .ref (M.2.2.2 40)) rfl dX8_canServe_1 ?_
  refine qm_iload_n E_X8_canServe (by rfl) dX8_canServe_4 ?_
  obtain ⟨o1, h⟩ := h
  refine qm_iald E_X8_canServe 40 (by decide) rfl o1 dX8_canServe_5 ?_
  refine qm_aload_n E_X8_canServe (by rfl) dX8_canServe_6 ?_
  refine qm_get E_X8_canServe rfl 23 (by decide) q1680 (v := .ref (M.2.2.2 23)) rfl dX8_canServe_7 ?_
  refine qm_iload_n E_X8_canServe (by rfl) dX8_canServe_10 ?_
  obtain ⟨o2, h⟩ := h
  refine qm_iald E_X8_canServe 23 (by decide) rfl o2 dX8_canServe_11 ?_
  obtain ⟨h9, h⟩ := h
  have Jv6 : ∀ v6 : Int32, v6 = (if (S.2 40 a1.toNatClampNeg) = (S.2 23 a2.toNatClampNeg) then if (S.1 53) < ((S.1 8) - (S.2 41 a1.toNatClampNeg)) then (0 : Int32) else (1 : Int32) else (0 : Int32)) → qm_wp M (d + 2) I_X8_canServe 38 [some (.ref M.2.2.1), some (.int a1), some (.int a2), none, none, none, none, none] [.int v6] S (fun v S' => ∃ r, v = some (.int r) ∧ (r = 0 ∨ r = 1) ∧ S = S' ∧ K r) := by
    rintro _ rfl
    refine qm_istore_n E_X8_canServe (by decide) dX8_canServe_38 ?_
    refine qm_iconst E_X8_canServe 4 (by decide) dX8_canServe_39 ?_
    refine qm_iload_n E_X8_canServe (by rfl) dX8_canServe_40 ?_
    refine qm_imul E_X8_canServe dX8_canServe_41 ?_
    refine qm_istore E_X8_canServe (by decide) dX8_canServe_42 ?_
    refine h (fun x8 x9 => qm_wp M (d + 2) I_X8_canServe 44 [some (.ref M.2.2.1), some (.int a1), some (.int a2), some (.int x8), some (.int x9), none, none, none] [] S (fun v S' => ∃ r, v = some (.int r) ∧ (r = 0 ∨ r = 1) ∧ S = S' ∧ K r)) ?_
    intro x8 x9 h
    refine qm_iload E_X8_canServe (by rfl) dX8_canServe_44 ?_
    refine qm_iconst E_X8_canServe 4 (by decide) dX8_canServe_46 ?_
    refine qm_iload_n E_X8_canServe (by rfl) dX8_canServe_47 ?_
    refine qm_imul E_X8_canServe dX8_canServe_48 ?_
    refine qm_aload_n E_X8_canServe (by rfl) dX8_canServe_49 ?_
    refine qm_get E_X8_canServe rfl 48 (by decide) q1705 (v := .ref (M.2.2.2 48)) rfl dX8_canServe_50 ?_
    refine qm_iload_n E_X8_canServe (by rfl) dX8_canServe_53 ?_
    obtain ⟨o10, h⟩ := h
    refine qm_iald E_X8_canServe 48 (by decide) rfl o10 dX8_canServe_54 ?_
    refine qm_iadd E_X8_canServe dX8_canServe_55 ?_
    refine qm_icmp_ge E_X8_canServe 186 dX8_canServe_56 (by decide) (fun (c11 : ((4 * a1) + (S.2 48 a1.toNatClampNeg)) ≤ x9) => ?_) (fun (c11 : ¬ ((4 * a1) + (S.2 48 a1.toNatClampNeg)) ≤ x9) => ?_)
    · have h := h.1 c11
      refine qm_iload_n E_X8_canServe (by rfl) dX8_canServe_186 ?_
      obtain ⟨o12, h⟩ := h
      exact qm_zret E_X8_canServe rfl (qm_nb o12) dX8_canServe_187 ⟨_, rfl, o12, rfl, h⟩
    · have h := h.2 c11
      refine qm_iconst E_X8_canServe 0 (by decide) dX8_canServe_59 ?_
      refine qm_istore E_X8_canServe (by decide) dX8_canServe_60 ?_
      refine qm_iconst E_X8_canServe 0 (by decide) dX8_canServe_62 ?_
      refine qm_istore E_X8_canServe (by decide) dX8_canServe_63 ?_
      refine h (fun x14 x15 => qm_wp M (d + 2) I_X8_canServe 65 [some (.ref M.2.2.1), some (.int a1), some (.int a2), some (.int x8), some (.int x9), some (.int x14), some (.int x15), none] [] S (fun v S' => ∃ r, v = some (.int r) ∧ (r = 0 ∨ r = 1) ∧ S = S' ∧ K r)) ?_
      intro x14 x15 h
      refine qm_iload E_X8_canServe (by rfl) dX8_canServe_65 ?_
      refine qm_aload_n E_X8_canServe (by rfl) dX8_canServe_67 ?_
      refine qm_get E_X8_canServe rfl 29 (by decide) q1686 (v := .int (S.1 29)) rfl dX8_canServe_68 ?_
      refine qm_icmp_ge E_X8_canServe 165 dX8_canServe_71 (by decide) (fun (c16 : (S.1 29) ≤ x15) => ?_) (fun (c16 : ¬ (S.1 29) ≤ x15) => ?_)
      · have h := h.1 c16
        refine qm_iload_n E_X8_canServe (by rfl) dX8_canServe_165 ?_
        refine qm_if_eq E_X8_canServe 178 dX8_canServe_166 (by decide) (fun (c17 : x8 = 0) => ?_) (fun (c17 : ¬ x8 = 0) => ?_)
        · have h := h.1 c17
          refine qm_iconst E_X8_canServe 0 (by decide) dX8_canServe_178 ?_
          refine qm_istore_n E_X8_canServe (by decide) dX8_canServe_179 ?_
          refine qm_iinc E_X8_canServe 1 rfl (by decide) (by decide) dX8_canServe_180 ?_
          refine qm_goto E_X8_canServe 44 dX8_canServe_183 (by decide) ?_
          refine qm_drop 5 ?_
          refine qm_drop 6 ?_
          exact h
        · have h := h.2 c17
          refine qm_iload E_X8_canServe (by rfl) dX8_canServe_169 ?_
          refine qm_if_eq E_X8_canServe 178 dX8_canServe_171 (by decide) (fun (c18 : x14 = 0) => ?_) (fun (c18 : ¬ x14 = 0) => ?_)
          · have h := h.1 c18
            refine qm_iconst E_X8_canServe 0 (by decide) dX8_canServe_178 ?_
            refine qm_istore_n E_X8_canServe (by decide) dX8_canServe_179 ?_
            refine qm_iinc E_X8_canServe 1 rfl (by decide) (by decide) dX8_canServe_180 ?_
            refine qm_goto E_X8_canServe 44 dX8_canServe_183 (by decide) ?_
            refine qm_drop 5 ?_
            refine qm_drop 6 ?_
            exact h
          · have h := h.2 c18
            refine qm_iconst E_X8_canServe 1 (by decide) dX8_canServe_174 ?_
            refine qm_goto E_X8_canServe 179 dX8_canServe_175 (by decide) ?_
            refine qm_istore_n E_X8_canServe (by decide) dX8_canServe_179 ?_
            refine qm_iinc E_X8_canServe 1 rfl (by decide) (by decide) dX8_canServe_180 ?_
            refine qm_goto E_X8_canServe 44 dX8_canServe_183 (by decide) ?_
            refine qm_drop 5 ?_
            refine qm_drop 6 ?_
            exact h
      · have h := h.2 c16
        refine qm_aload_n E_X8_canServe (by rfl) dX8_canServe_74 ?_
        refine qm_iload E_X8_canServe (by rfl) dX8_canServe_75 ?_
        refine qm_iload_n E_X8_canServe (by rfl) dX8_canServe_77 ?_
        obtain ⟨o19, h⟩ := h
        refine qm_callV (As := [.int x15, .int a2]) (rest := []) E_X8_canServe rfl M_X8_isSent rfl q2129 q2131 qs53 rfl rfl rfl (Nat.le_of_ble_eq_true rfl) dX8_canServe_78 (C_X8_isSent (d := d) x15 a2 S _ o19 ?_)
        obtain ⟨h9, h⟩ := h
        have Jv24 : ∀ v24 : Int32, v24 = (if (f_X8_isSent x15 a2 S) = 0 then (0 : Int32) else if (S.2 31 x15.toNatClampNeg) = (S.2 49 x9.toNatClampNeg) then (1 : Int32) else (0 : Int32)) → qm_wp M (d + 2) I_X8_canServe 106 [some (.ref M.2.2.1), some (.int a1), some (.int a2), some (.int x8), some (.int x9), some (.int x14), some (.int x15), none] [.int v24] S (fun v S' => ∃ r, v = some (.int r) ∧ (r = 0 ∨ r = 1) ∧ S = S' ∧ K r) := by
          rintro _ rfl
          refine qm_istore E_X8_canServe (by decide) dX8_canServe_106 ?_
          refine qm_iload E_X8_canServe (by rfl) dX8_canServe_108 ?_
          refine qm_if_ne E_X8_canServe 152 dX8_canServe_110 (by decide) (fun (c25 : ¬ x14 = 0) => ?_) (fun (c25 : x14 = 0) => ?_)
          · have h := h.1 c25
            refine qm_iconst E_X8_canServe 1 (by decide) dX8_canServe_152 ?_
            refine qm_goto E_X8_canServe 157 dX8_canServe_153 (by decide) ?_
            refine qm_istore E_X8_canServe (by decide) dX8_canServe_157 ?_
            refine qm_iinc E_X8_canServe 1 rfl (by decide) (by decide) dX8_canServe_159 ?_
            refine qm_goto E_X8_canServe 65 dX8_canServe_162 (by decide) ?_
            refine qm_drop 7 ?_
            exact h
          · have h := h.2 c25
            refine qm_iload E_X8_canServe (by rfl) dX8_canServe_113 ?_
            refine qm_if_eq E_X8_canServe 156 dX8_canServe_115 (by decide) (fun (c26 : ((if (f_X8_isSent x15 a2 S) = 0 then (0 : Int32) else if (S.2 31 x15.toNatClampNeg) = (S.2 49 x9.toNatClampNeg) then (1 : Int32) else (0 : Int32))) = 0) => ?_) (fun (c26 : ¬ ((if (f_X8_isSent x15 a2 S) = 0 then (0 : Int32) else if (S.2 31 x15.toNatClampNeg) = (S.2 49 x9.toNatClampNeg) then (1 : Int32) else (0 : Int32))) = 0) => ?_)
            · have h := h.1 c26
              refine qm_iconst E_X8_canServe 0 (by decide) dX8_canServe_156 ?_
              refine qm_istore E_X8_canServe (by decide) dX8_canServe_157 ?_
              refine qm_iinc E_X8_canServe 1 rfl (by decide) (by decide) dX8_canServe_159 ?_
              refine qm_goto E_X8_canServe 65 dX8_canServe_162 (by decide) ?_
              refine qm_drop 7 ?_
              exact h
            · have h := h.2 c26
              refine qm_aload_n E_X8_canServe (by rfl) dX8_canServe_118 ?_
              refine qm_get E_X8_canServe rfl 50 (by decide) q1707 (v := .ref (M.2.2.2 50)) rfl dX8_canServe_119 ?_
              refine qm_iload E_X8_canServe (by rfl) dX8_canServe_122 ?_
              obtain ⟨o27, h⟩ := h
              refine qm_iald E_X8_canServe 50 (by decide) rfl o27 dX8_canServe_124 ?_
              refine qm_aload_n E_X8_canServe (by rfl) dX8_canServe_125 ?_
              refine qm_get E_X8_canServe rfl 51 (by decide) q1708 (v := .ref (M.2.2.2 51)) rfl dX8_canServe_126 ?_
              refine qm_iload E_X8_canServe (by rfl) dX8_canServe_129 ?_
              obtain ⟨o28, h⟩ := h
              refine qm_iald E_X8_canServe 51 (by decide) rfl o28 dX8_canServe_131 ?_
              refine qm_aload_n E_X8_canServe (by rfl) dX8_canServe_132 ?_
              refine qm_get E_X8_canServe rfl 32 (by decide) q1689 (v := .ref (M.2.2.2 32)) rfl dX8_canServe_133 ?_
              refine qm_iload E_X8_canServe (by rfl) dX8_canServe_136 ?_
              obtain ⟨o29, h⟩ := h
              refine qm_iald E_X8_canServe 32 (by decide) rfl o29 dX8_canServe_138 ?_
              refine qm_aload_n E_X8_canServe (by rfl) dX8_canServe_139 ?_
              refine qm_get E_X8_canServe rfl 33 (by decide) q1690 (v := .ref (M.2.2.2 33)) rfl dX8_canServe_140 ?_
              refine qm_iload E_X8_canServe (by rfl) dX8_canServe_143 ?_
              obtain ⟨o30, h⟩ := h
              refine qm_iald E_X8_canServe 33 (by decide) rfl o30 dX8_canServe_145 ?_
              refine qm_callS (As := [.int (S.2 50 x9.toNatClampNeg), .int (S.2 51 x9.toNatClampNeg), .int (S.2 32 x15.toNatClampNeg), .int (S.2 33 x15.toNatClampNeg)]) (rest := []) E_X8_canServe rfl M_X8_follows rfl q2148 q2149 rfl rfl (Nat.le_of_ble_eq_true rfl) dX8_canServe_146 (C_X8_follows (d := d + 1) (S.2 50 x9.toNatClampNeg) (S.2 51 x9.toNatClampNeg) (S.2 32 x15.toNatClampNeg) (S.2 33 x15.toNatClampNeg) S _ ?_)
              refine qm_if_eq E_X8_canServe 156 dX8_canServe_149 (by decide) (fun (c31 : (f_X8_follows (S.2 50 x9.toNatClampNeg) (S.2 51 x9.toNatClampNeg) (S.2 32 x15.toNatClampNeg) (S.2 33 x15.toNatClampNeg)) = 0) => ?_) (fun (c31 : ¬ (f_X8_follows (S.2 50 x9.toNatClampNeg) (S.2 51 x9.toNatClampNeg) (S.2 32 x15.toNatClampNeg) (S.2 33 x15.toNatClampNeg)) = 0) => ?_)
              · have h := h.1 c31
                refine qm_iconst E_X8_canServe 0 (by decide) dX8_canServe_156 ?_
                refine qm_istore E_X8_canServe (by decide) dX8_canServe_157 ?_
                refine qm_iinc E_X8_canServe 1 rfl (by decide) (by decide) dX8_canServe_159 ?_
                refine qm_goto E_X8_canServe 65 dX8_canServe_162 (by decide) ?_
                refine qm_drop 7 ?_
                exact h
              · have h := h.2 c31
                refine qm_iconst E_X8_canServe 1 (by decide) dX8_canServe_152 ?_
                refine qm_goto E_X8_canServe 157 dX8_canServe_153 (by decide) ?_
                refine qm_istore E_X8_canServe (by decide) dX8_canServe_157 ?_
                refine qm_iinc E_X8_canServe 1 rfl (by decide) (by decide) dX8_canServe_159 ?_
                refine qm_goto E_X8_canServe 65 dX8_canServe_162 (by decide) ?_
                refine qm_drop 7 ?_
                exact h
        have h := h9
        refine qm_if_eq E_X8_canServe 105 dX8_canServe_81 (by decide) (fun (c20 : (f_X8_isSent x15 a2 S) = 0) => ?_) (fun (c20 : ¬ (f_X8_isSent x15 a2 S) = 0) => ?_)
        · have h := h.1 c20
          refine qm_iconst E_X8_canServe 0 (by decide) dX8_canServe_105 ?_
          exact Jv24 ((0 : Int32)) (by rw [if_pos c20])
        · have h := h.2 c20
          refine qm_aload_n E_X8_canServe (by rfl) dX8_canServe_84 ?_
          refine qm_get E_X8_canServe rfl 31 (by decide) q1688 (v := .ref (M.2.2.2 31)) rfl dX8_canServe_85 ?_
          refine qm_iload E_X8_canServe (by rfl) dX8_canServe_88 ?_
          obtain ⟨o21, h⟩ := h
          refine qm_iald E_X8_canServe 31 (by decide) rfl o21 dX8_canServe_90 ?_
          refine qm_aload_n E_X8_canServe (by rfl) dX8_canServe_91 ?_
          refine qm_get E_X8_canServe rfl 49 (by decide) q1706 (v := .ref (M.2.2.2 49)) rfl dX8_canServe_92 ?_
          refine qm_iload E_X8_canServe (by rfl) dX8_canServe_95 ?_
          have o22 := h
          refine qm_iald E_X8_canServe 49 (by decide) rfl o22 dX8_canServe_97 ?_
          refine qm_icmp_ne E_X8_canServe 105 dX8_canServe_98 (by decide) (fun (c23 : ¬ (S.2 31 x15.toNatClampNeg) = (S.2 49 x9.toNatClampNeg)) => ?_) (fun (c23 : (S.2 31 x15.toNatClampNeg) = (S.2 49 x9.toNatClampNeg)) => ?_)
          · refine qm_iconst E_X8_canServe 0 (by decide) dX8_canServe_105 ?_
            exact Jv24 ((0 : Int32)) (by rw [if_neg c20, if_neg c23])
          · refine qm_iconst E_X8_canServe 1 (by decide) dX8_canServe_101 ?_
            refine qm_goto E_X8_canServe 106 dX8_canServe_102 (by decide) ?_
            exact Jv24 ((1 : Int32)) (by rw [if_neg c20, if_pos c23])
  have h := h9
  refine qm_icmp_ne E_X8_canServe 37 dX8_canServe_12 (by decide) (fun (c3 : ¬ (S.2 40 a1.toNatClampNeg) = (S.2 23 a2.toNatClampNeg)) => ?_) (fun (c3 : (S.2 40 a1.toNatClampNeg) = (S.2 23 a2.toNatClampNeg)) => ?_)
  · have h := h.1 c3
    refine qm_iconst E_X8_canServe 0 (by decide) dX8_canServe_37 ?_
    exact Jv6 ((0 : Int32)) (by rw [if_neg c3])
  · have h := h.2 c3
    refine qm_aload_n E_X8_canServe (by rfl) dX8_canServe_15 ?_
    refine qm_get E_X8_canServe rfl 8 (by decide) q1665 (v := .int (S.1 8)) rfl dX8_canServe_16 ?_
    refine qm_aload_n E_X8_canServe (by rfl) dX8_canServe_19 ?_
    refine qm_get E_X8_canServe rfl 41 (by decide) q1698 (v := .ref (M.2.2.2 41)) rfl dX8_canServe_20 ?_
    refine qm_iload_n E_X8_canServe (by rfl) dX8_canServe_23 ?_
    have o4 := h
    refine qm_iald E_X8_canServe 41 (by decide) rfl o4 dX8_canServe_24 ?_
    refine qm_isub E_X8_canServe dX8_canServe_25 ?_
    refine qm_aload_n E_X8_canServe (by rfl) dX8_canServe_26 ?_
    refine qm_get E_X8_canServe rfl 53 (by decide) q1710 (v := .int (S.1 53)) rfl dX8_canServe_27 ?_
    refine qm_icmp_gt E_X8_canServe 37 dX8_canServe_30 (by decide) (fun (c5 : (S.1 53) < ((S.1 8) - (S.2 41 a1.toNatClampNeg))) => ?_) (fun (c5 : ¬ (S.1 53) < ((S.1 8) - (S.2 41 a1.toNatClampNeg))) => ?_)
    · refine qm_iconst E_X8_canServe 0 (by decide) dX8_canServe_37 ?_
      exact Jv6 ((0 : Int32)) (by rw [if_pos c3, if_pos c5])
    · refine qm_iconst E_X8_canServe 1 (by decide) dX8_canServe_33 ?_
      refine qm_goto E_X8_canServe 38 dX8_canServe_34 (by decide) ?_
      exact Jv6 ((1 : Int32)) (by rw [if_pos c3, if_neg c5])
def I_X8_entryFor : qh_I := (yX8_entryFor, cX8_entryFor, 4, (Option.some Jvm.ClassFile.FieldType.int), [])
theorem E_X8_entryFor : I_X8_entryFor.2.1 = cX8_entryFor := rfl
theorem M_X8_entryFor : qh_M I_X8_entryFor 1 := ⟨by decide, by decide, by decide +kernel, q95, q2143, by decide⟩
def T_X8_entryFor (a1 : Int32) (S : qm_S) (K : Int32 → Prop) : Prop := ∀ X1 : Int32 → Int32 → Prop, (∀ (x2 x3 : Int32), (((S.1 39) ≤ x3 → K x2) ∧ (¬ (S.1 39) ≤ x3 → T_X8_canServe x3 a1 S (fun r5 => (r5 = 0 → X1 x2 (x3 + 1)) ∧ (¬ r5 = 0 → X1 x3 (x3 + 1))))) → X1 x2 x3) → X1 ((-1)) 0
set_option maxHeartbeats 4000000 in
theorem C_X8_entryFor {M : qm_G} {d : Nat} (a1 : Int32) (S : qm_S) (K : Int32 → Prop) (h : T_X8_entryFor a1 S K) : qm_C M (d + 3) I_X8_entryFor [.ref M.2.2.1, .int a1] S (fun v S' => ∃ r, v = some (.int r) ∧ S = S' ∧ K r) := by
  refine qm_C.of (by decide) rfl (ls := [some (.ref M.2.2.1), some (.int a1), none, none]) rfl (Nat.le_of_ble_eq_true rfl) (qm_ct rfl) ?_
  unfold T_X8_entryFor at h
  refine qm_iconst E_X8_entryFor (-1) (by decide) dX8_entryFor_0 ?_
  refine qm_istore_n E_X8_entryFor (by decide) dX8_entryFor_1 ?_
  refine qm_iconst E_X8_entryFor 0 (by decide) dX8_entryFor_2 ?_
  refine qm_istore_n E_X8_entryFor (by decide) dX8_entryFor_3 ?_
  refine h (fun x2 x3 => qm_wp M (d + 3) I_X8_entryFor 4 [some (.ref M.2.2.1), some (.int a1), some (.int x2), some (.int x3)] [] S (fun v S' => ∃ r, v = some (.int r) ∧ S = S' ∧ K r)) ?_
  intro x2 x3 h
  refine qm_iload_n E_X8_entryFor (by rfl) dX8_entryFor_4 ?_
  refine qm_aload_n E_X8_entryFor (by rfl) dX8_entryFor_5 ?_
  refine qm_get E_X8_entryFor rfl 39 (by decide) q1696 (v := .int (S.1 39)) rfl dX8_entryFor_6 ?_
  refine qm_icmp_ge E_X8_entryFor 33 dX8_entryFor_9 (by decide) (fun (c4 : (S.1 39) ≤ x3) => ?_) (fun (c4 : ¬ (S.1 39) ≤ x3) => ?_)
  · have h := h.1 c4
    refine qm_iload_n E_X8_entryFor (by rfl) dX8_entryFor_33 ?_
    exact qm_iret E_X8_entryFor rfl dX8_entryFor_34 ⟨_, rfl, rfl, h⟩
  · have h := h.2 c4
    refine qm_aload_n E_X8_entryFor (by rfl) dX8_entryFor_12 ?_
    refine qm_iload_n E_X8_entryFor (by rfl) dX8_entryFor_13 ?_
    refine qm_iload_n E_X8_entryFor (by rfl) dX8_entryFor_14 ?_
    refine qm_callV (As := [.int x3, .int a1]) (rest := []) E_X8_entryFor rfl M_X8_canServe rfl q2144 q2146 qs56 rfl rfl rfl (Nat.le_of_ble_eq_true rfl) dX8_entryFor_15 (qm_C.mono ?_ (C_X8_canServe (d := d) x3 a1 S _ h))
    rintro _ _ ⟨r5, rfl, z6, rfl, h⟩
    refine qm_if_eq E_X8_entryFor 25 dX8_entryFor_18 (by decide) (fun (c7 : r5 = 0) => ?_) (fun (c7 : ¬ r5 = 0) => ?_)
    · have h := h.1 c7
      refine qm_iload_n E_X8_entryFor (by rfl) dX8_entryFor_25 ?_
      refine qm_istore_n E_X8_entryFor (by decide) dX8_entryFor_26 ?_
      refine qm_iinc E_X8_entryFor 1 rfl (by decide) (by decide) dX8_entryFor_27 ?_
      refine qm_goto E_X8_entryFor 4 dX8_entryFor_30 (by decide) ?_
      exact h
    · have h := h.2 c7
      refine qm_iload_n E_X8_entryFor (by rfl) dX8_entryFor_21 ?_
      refine qm_goto E_X8_entryFor 26 dX8_entryFor_22 (by decide) ?_
      refine qm_istore_n E_X8_entryFor (by decide) dX8_entryFor_26 ?_
      refine qm_iinc E_X8_entryFor 1 rfl (by decide) (by decide) dX8_entryFor_27 ?_
      refine qm_goto E_X8_entryFor 4 dX8_entryFor_30 (by decide) ?_
      exact h
def I_X8_serves : qh_I := (yX8_serves, cX8_serves, 4, (Option.none : Option Jvm.ClassFile.FieldType), [])
theorem E_X8_serves : I_X8_serves.2.1 = cX8_serves := rfl
theorem M_X8_serves : qh_M I_X8_serves 2 := ⟨by decide, by decide, by decide +kernel, q95, q2154, by decide⟩
def T_X8_serves (a1 a2 : Int32) (S : qm_S) (K : qm_S → Prop) : Prop := vp_in a1 (qm_len 45) ∧ vp_in a2 (qm_len 57) ∧ ∀ X3 : Int32 → qm_S → Prop, (∀ (x4 : Int32) (S5 : qm_S), ((12 ≤ x4 → ∀ X7 : Int32 → qm_S → Prop, (∀ (x8 : Int32) (S9 : qm_S), ((48 ≤ x8 → vp_in a1 (qm_len 42) ∧ vp_in a2 (qm_len 60) ∧ vp_in a1 (qm_len 43) ∧ vp_in a2 (qm_len 61) ∧ K ((S9.1, qm_uA (qm_uA S9.2 60 (upd (S9.2 60) a2.toNatClampNeg (S9.2 42 a1.toNatClampNeg))) 61 (upd (S9.2 61) a2.toNatClampNeg ((if (S9.2 43 a1.toNatClampNeg) = ((-1)) then S9.1 7 else S9.2 43 a1.toNatClampNeg)))))) ∧ (¬ 48 ≤ x8 → vp_in ((48 * a1) + x8) (qm_len 47) ∧ vp_in ((48 * a2) + x8) (qm_len 59) ∧ X7 (x8 + 1) ((S9.1, qm_uA S9.2 59 (upd (S9.2 59) ((48 * a2) + x8).toNatClampNeg (S9.2 47 ((48 * a1) + x8).toNatClampNeg)))))) → X7 x8 S9) → X7 0 S5) ∧ (¬ 12 ≤ x4 → vp_in ((12 * a1) + x4) (qm_len 46) ∧ vp_in ((12 * a2) + x4) (qm_len 58) ∧ X3 (x4 + 1) ((S5.1, qm_uA S5.2 58 (upd (S5.2 58) ((12 * a2) + x4).toNatClampNeg (S5.2 46 ((12 * a1) + x4).toNatClampNeg)))))) → X3 x4 S5) → X3 0 ((S.1, qm_uA S.2 57 (upd (S.2 57) a2.toNatClampNeg (S.2 45 a1.toNatClampNeg))))
set_option maxHeartbeats 4000000 in
theorem C_X8_serves {M : qm_G} {d : Nat} (a1 a2 : Int32) (S : qm_S) (K : qm_S → Prop) (h : T_X8_serves a1 a2 S K) : qm_C M (d + 0) I_X8_serves [.ref M.2.2.1, .int a1, .int a2] S (fun v S' => v = none ∧ K S') := by
  refine qm_C.of (by decide) rfl (ls := [some (.ref M.2.2.1), some (.int a1), some (.int a2), none]) rfl (Nat.le_of_ble_eq_true rfl) (qm_ct rfl) ?_
  unfold T_X8_serves at h
  refine qm_aload_n E_X8_serves (by rfl) dX8_serves_0 ?_
  refine qm_get E_X8_serves rfl 57 (by decide) q1714 (v := .ref (M.2.2.2 57)) rfl dX8_serves_1 ?_
  refine qm_iload_n E_X8_serves (by rfl) dX8_serves_4 ?_
  refine qm_aload_n E_X8_serves (by rfl) dX8_serves_5 ?_
  refine qm_get E_X8_serves rfl 45 (by decide) q1702 (v := .ref (M.2.2.2 45)) rfl dX8_serves_6 ?_
  refine qm_iload_n E_X8_serves (by rfl) dX8_serves_9 ?_
  obtain ⟨o1, h⟩ := h
  refine qm_iald E_X8_serves 45 (by decide) rfl o1 dX8_serves_10 ?_
  obtain ⟨o2, h⟩ := h
  refine qm_iast E_X8_serves 57 (by decide) rfl o2 dX8_serves_11 ?_
  refine qm_iconst E_X8_serves 0 (by decide) dX8_serves_12 ?_
  refine qm_istore_n E_X8_serves (by decide) dX8_serves_13 ?_
  refine h (fun x4 S5 => qm_wp M (d + 0) I_X8_serves 14 [some (.ref M.2.2.1), some (.int a1), some (.int a2), some (.int x4)] [] S5 (fun v S' => v = none ∧ K S')) ?_
  intro x4 S5 h
  refine qm_iload_n E_X8_serves (by rfl) dX8_serves_14 ?_
  refine qm_bipush E_X8_serves 12 (by decide) dX8_serves_15 ?_
  refine qm_icmp_ge E_X8_serves 48 dX8_serves_17 (by decide) (fun (c6 : 12 ≤ x4) => ?_) (fun (c6 : ¬ 12 ≤ x4) => ?_)
  · have h := h.1 c6
    refine qm_iconst E_X8_serves 0 (by decide) dX8_serves_48 ?_
    refine qm_istore_n E_X8_serves (by decide) dX8_serves_49 ?_
    refine h (fun x8 S9 => qm_wp M (d + 0) I_X8_serves 50 [some (.ref M.2.2.1), some (.int a1), some (.int a2), some (.int x8)] [] S9 (fun v S' => v = none ∧ K S')) ?_
    intro x8 S9 h
    refine qm_iload_n E_X8_serves (by rfl) dX8_serves_50 ?_
    refine qm_bipush E_X8_serves 48 (by decide) dX8_serves_51 ?_
    refine qm_icmp_ge E_X8_serves 84 dX8_serves_53 (by decide) (fun (c10 : 48 ≤ x8) => ?_) (fun (c10 : ¬ 48 ≤ x8) => ?_)
    · have h := h.1 c10
      refine qm_aload_n E_X8_serves (by rfl) dX8_serves_84 ?_
      refine qm_get E_X8_serves rfl 60 (by decide) q1717 (v := .ref (M.2.2.2 60)) rfl dX8_serves_85 ?_
      refine qm_iload_n E_X8_serves (by rfl) dX8_serves_88 ?_
      refine qm_aload_n E_X8_serves (by rfl) dX8_serves_89 ?_
      refine qm_get E_X8_serves rfl 42 (by decide) q1699 (v := .ref (M.2.2.2 42)) rfl dX8_serves_90 ?_
      refine qm_iload_n E_X8_serves (by rfl) dX8_serves_93 ?_
      obtain ⟨o11, h⟩ := h
      refine qm_iald E_X8_serves 42 (by decide) rfl o11 dX8_serves_94 ?_
      obtain ⟨o12, h⟩ := h
      refine qm_iast E_X8_serves 60 (by decide) rfl o12 dX8_serves_95 ?_
      refine qm_aload_n E_X8_serves (by rfl) dX8_serves_96 ?_
      refine qm_get E_X8_serves rfl 61 (by decide) q1718 (v := .ref (M.2.2.2 61)) rfl dX8_serves_97 ?_
      refine qm_iload_n E_X8_serves (by rfl) dX8_serves_100 ?_
      refine qm_aload_n E_X8_serves (by rfl) dX8_serves_101 ?_
      refine qm_get E_X8_serves rfl 43 (by decide) q1700 (v := .ref (M.2.2.2 43)) rfl dX8_serves_102 ?_
      refine qm_iload_n E_X8_serves (by rfl) dX8_serves_105 ?_
      obtain ⟨o13, h⟩ := h
      refine qm_iald E_X8_serves 43 (by decide) rfl o13 dX8_serves_106 ?_
      refine qm_iconst E_X8_serves (-1) (by decide) dX8_serves_107 ?_
      have Jv15 : ∀ v15 : Int32, v15 = (if (S9.2 43 a1.toNatClampNeg) = ((-1)) then S9.1 7 else S9.2 43 a1.toNatClampNeg) → qm_wp M (d + 0) I_X8_serves 124 [some (.ref M.2.2.1), some (.int a1), some (.int a2), some (.int x8)] [.int v15, .int a2, .ref (M.2.2.2 61)] (S9.1, qm_uA S9.2 60 (upd (S9.2 60) a2.toNatClampNeg (S9.2 42 a1.toNatClampNeg))) (fun v S' => v = none ∧ K S') := by
        rintro _ rfl
        obtain ⟨o16, h⟩ := h
        refine qm_iast E_X8_serves 61 (by decide) rfl o16 dX8_serves_124 ?_
        exact qm_vret E_X8_serves rfl dX8_serves_125 ⟨rfl, h⟩
      refine qm_icmp_ne E_X8_serves 118 dX8_serves_108 (by decide) (fun (c14 : ¬ (S9.2 43 a1.toNatClampNeg) = ((-1))) => ?_) (fun (c14 : (S9.2 43 a1.toNatClampNeg) = ((-1))) => ?_)
      · refine qm_aload_n E_X8_serves (by rfl) dX8_serves_118 ?_
        refine qm_get E_X8_serves rfl 43 (by decide) q1700 (v := .ref (M.2.2.2 43)) rfl dX8_serves_119 ?_
        refine qm_iload_n E_X8_serves (by rfl) dX8_serves_122 ?_
        refine qm_iald E_X8_serves 43 (by decide) rfl o13 dX8_serves_123 ?_
        exact Jv15 (S9.2 43 a1.toNatClampNeg) (by rw [if_neg c14])
      · refine qm_aload_n E_X8_serves (by rfl) dX8_serves_111 ?_
        refine qm_get E_X8_serves rfl 7 (by decide) q1664 (v := .int (S9.1 7)) rfl dX8_serves_112 ?_
        refine qm_goto E_X8_serves 124 dX8_serves_115 (by decide) ?_
        exact Jv15 (S9.1 7) (by rw [if_pos c14])
    · have h := h.2 c10
      refine qm_aload_n E_X8_serves (by rfl) dX8_serves_56 ?_
      refine qm_get E_X8_serves rfl 59 (by decide) q1716 (v := .ref (M.2.2.2 59)) rfl dX8_serves_57 ?_
      refine qm_bipush E_X8_serves 48 (by decide) dX8_serves_60 ?_
      refine qm_iload_n E_X8_serves (by rfl) dX8_serves_62 ?_
      refine qm_imul E_X8_serves dX8_serves_63 ?_
      refine qm_iload_n E_X8_serves (by rfl) dX8_serves_64 ?_
      refine qm_iadd E_X8_serves dX8_serves_65 ?_
      refine qm_aload_n E_X8_serves (by rfl) dX8_serves_66 ?_
      refine qm_get E_X8_serves rfl 47 (by decide) q1704 (v := .ref (M.2.2.2 47)) rfl dX8_serves_67 ?_
      refine qm_bipush E_X8_serves 48 (by decide) dX8_serves_70 ?_
      refine qm_iload_n E_X8_serves (by rfl) dX8_serves_72 ?_
      refine qm_imul E_X8_serves dX8_serves_73 ?_
      refine qm_iload_n E_X8_serves (by rfl) dX8_serves_74 ?_
      refine qm_iadd E_X8_serves dX8_serves_75 ?_
      obtain ⟨o17, h⟩ := h
      refine qm_iald E_X8_serves 47 (by decide) rfl o17 dX8_serves_76 ?_
      obtain ⟨o18, h⟩ := h
      refine qm_iast E_X8_serves 59 (by decide) rfl o18 dX8_serves_77 ?_
      refine qm_iinc E_X8_serves 1 rfl (by decide) (by decide) dX8_serves_78 ?_
      refine qm_goto E_X8_serves 50 dX8_serves_81 (by decide) ?_
      exact h
  · have h := h.2 c6
    refine qm_aload_n E_X8_serves (by rfl) dX8_serves_20 ?_
    refine qm_get E_X8_serves rfl 58 (by decide) q1715 (v := .ref (M.2.2.2 58)) rfl dX8_serves_21 ?_
    refine qm_bipush E_X8_serves 12 (by decide) dX8_serves_24 ?_
    refine qm_iload_n E_X8_serves (by rfl) dX8_serves_26 ?_
    refine qm_imul E_X8_serves dX8_serves_27 ?_
    refine qm_iload_n E_X8_serves (by rfl) dX8_serves_28 ?_
    refine qm_iadd E_X8_serves dX8_serves_29 ?_
    refine qm_aload_n E_X8_serves (by rfl) dX8_serves_30 ?_
    refine qm_get E_X8_serves rfl 46 (by decide) q1703 (v := .ref (M.2.2.2 46)) rfl dX8_serves_31 ?_
    refine qm_bipush E_X8_serves 12 (by decide) dX8_serves_34 ?_
    refine qm_iload_n E_X8_serves (by rfl) dX8_serves_36 ?_
    refine qm_imul E_X8_serves dX8_serves_37 ?_
    refine qm_iload_n E_X8_serves (by rfl) dX8_serves_38 ?_
    refine qm_iadd E_X8_serves dX8_serves_39 ?_
    obtain ⟨o19, h⟩ := h
    refine qm_iald E_X8_serves 46 (by decide) rfl o19 dX8_serves_40 ?_
    obtain ⟨o20, h⟩ := h
    refine qm_iast E_X8_serves 58 (by decide) rfl o20 dX8_serves_41 ?_
    refine qm_iinc E_X8_serves 1 rfl (by decide) (by decide) dX8_serves_42 ?_
    refine qm_goto E_X8_serves 14 dX8_serves_45 (by decide) ?_
    exact h
def I_X8_holds : qh_I := (yX8_holds, cX8_holds, 3, (Option.some Jvm.ClassFile.FieldType.boolean), [])
theorem E_X8_holds : I_X8_holds.2.1 = cX8_holds := rfl
theorem M_X8_holds : qh_M I_X8_holds 3 := ⟨by decide, by decide, by decide +kernel, q95, q2169, by decide⟩
def f_X8_holds (a1 a2 a3 : Int32) : Int32 := if a1 = 0 then if (f_X8_isNumber a3) = 0 then (0 : Int32) else if a3 = a2 then (1 : Int32) else (0 : Int32) else if a1 = 1 then if (f_X8_isNumber a3) = 0 then (0 : Int32) else if a2 ≤ a3 then (0 : Int32) else (1 : Int32) else if a1 = 2 then if (f_X8_isNumber a3) = 0 then (0 : Int32) else if a3 ≤ a2 then (0 : Int32) else (1 : Int32) else if a1 = 3 then if a3 = 5000 then (1 : Int32) else (0 : Int32) else if a3 = 5001 then (1 : Int32) else (0 : Int32)
theorem z_X8_holds (a1 a2 a3 : Int32) : (f_X8_holds a1 a2 a3) = 0 ∨ (f_X8_holds a1 a2 a3) = 1 := (qm_zi (qm_zi (Or.inl rfl) (qm_zi (Or.inr rfl) (Or.inl rfl))) (qm_zi (qm_zi (Or.inl rfl) (qm_zi (Or.inl rfl) (Or.inr rfl))) (qm_zi (qm_zi (Or.inl rfl) (qm_zi (Or.inl rfl) (Or.inr rfl))) (qm_zi (qm_zi (Or.inr rfl) (Or.inl rfl)) (qm_zi (Or.inr rfl) (Or.inl rfl))))))
set_option maxHeartbeats 4000000 in
theorem C_X8_holds {M : qm_G} {d : Nat} (a1 a2 a3 : Int32) (S : qm_S) (Q : Option Value → qm_S → Prop) (hq : Q (some (.int (f_X8_holds a1 a2 a3))) S) : qm_C M (d + 2) I_X8_holds [.int a1, .int a2, .int a3] S Q := by
  refine qm_C.of (by decide) rfl (ls := [some (.int a1), some (.int a2), some (.int a3)]) rfl (Nat.le_of_ble_eq_true rfl) (qm_ct rfl) ?_
  unfold f_X8_holds at hq
  refine qm_iload_n E_X8_holds (by rfl) dX8_holds_0 ?_
  by_cases s0_ : a1 = 0
  · rw [if_pos s0_] at hq
    refine qm_tableIn E_X8_holds 32 dX8_holds_1 (by rw [s0_]; decide) (by rw [s0_]; decide) (by rw [s0_]; rfl) (by decide) ?_
    refine qm_iload_n E_X8_holds (by rfl) dX8_holds_32 ?_
    refine qm_callS (As := [.int a3]) (rest := []) E_X8_holds rfl M_X8_isNumber rfl q1967 q1968 rfl rfl (Nat.le_of_ble_eq_true rfl) dX8_holds_33 (C_X8_isNumber (d := d) a3 S _ ?_)
    refine qm_if_eq E_X8_holds 48 dX8_holds_36 (by decide) (fun (c1 : (f_X8_isNumber a3) = 0) => ?_) (fun (c1 : ¬ (f_X8_isNumber a3) = 0) => ?_)
    · rw [if_pos c1] at hq
      refine qm_iconst E_X8_holds 0 (by decide) dX8_holds_48 ?_
      exact qm_zret E_X8_holds rfl (qm_nb (Or.inl rfl)) dX8_holds_49 hq
    · rw [if_neg c1] at hq
      refine qm_iload_n E_X8_holds (by rfl) dX8_holds_39 ?_
      refine qm_iload_n E_X8_holds (by rfl) dX8_holds_40 ?_
      refine qm_icmp_ne E_X8_holds 48 dX8_holds_41 (by decide) (fun (c2 : ¬ a3 = a2) => ?_) (fun (c2 : a3 = a2) => ?_)
      · rw [if_neg c2] at hq
        refine qm_iconst E_X8_holds 0 (by decide) dX8_holds_48 ?_
        exact qm_zret E_X8_holds rfl (qm_nb (Or.inl rfl)) dX8_holds_49 hq
      · rw [if_pos c2] at hq
        refine qm_iconst E_X8_holds 1 (by decide) dX8_holds_44 ?_
        refine qm_goto E_X8_holds 49 dX8_holds_45 (by decide) ?_
        exact qm_zret E_X8_holds rfl (qm_nb (Or.inr rfl)) dX8_holds_49 hq
  rw [if_neg s0_] at hq
  by_cases s1_ : a1 = 1
  · rw [if_pos s1_] at hq
    refine qm_tableIn E_X8_holds 50 dX8_holds_1 (by rw [s1_]; decide) (by rw [s1_]; decide) (by rw [s1_]; rfl) (by decide) ?_
    refine qm_iload_n E_X8_holds (by rfl) dX8_holds_50 ?_
    refine qm_callS (As := [.int a3]) (rest := []) E_X8_holds rfl M_X8_isNumber rfl q1967 q1968 rfl rfl (Nat.le_of_ble_eq_true rfl) dX8_holds_51 (C_X8_isNumber (d := d) a3 S _ ?_)
    refine qm_if_eq E_X8_holds 66 dX8_holds_54 (by decide) (fun (c3 : (f_X8_isNumber a3) = 0) => ?_) (fun (c3 : ¬ (f_X8_isNumber a3) = 0) => ?_)
    · rw [if_pos c3] at hq
      refine qm_iconst E_X8_holds 0 (by decide) dX8_holds_66 ?_
      exact qm_zret E_X8_holds rfl (qm_nb (Or.inl rfl)) dX8_holds_67 hq
    · rw [if_neg c3] at hq
      refine qm_iload_n E_X8_holds (by rfl) dX8_holds_57 ?_
      refine qm_iload_n E_X8_holds (by rfl) dX8_holds_58 ?_
      refine qm_icmp_ge E_X8_holds 66 dX8_holds_59 (by decide) (fun (c4 : a2 ≤ a3) => ?_) (fun (c4 : ¬ a2 ≤ a3) => ?_)
      · rw [if_pos c4] at hq
        refine qm_iconst E_X8_holds 0 (by decide) dX8_holds_66 ?_
        exact qm_zret E_X8_holds rfl (qm_nb (Or.inl rfl)) dX8_holds_67 hq
      · rw [if_neg c4] at hq
        refine qm_iconst E_X8_holds 1 (by decide) dX8_holds_62 ?_
        refine qm_goto E_X8_holds 67 dX8_holds_63 (by decide) ?_
        exact qm_zret E_X8_holds rfl (qm_nb (Or.inr rfl)) dX8_holds_67 hq
  rw [if_neg s1_] at hq
  by_cases s2_ : a1 = 2
  · rw [if_pos s2_] at hq
    refine qm_tableIn E_X8_holds 68 dX8_holds_1 (by rw [s2_]; decide) (by rw [s2_]; decide) (by rw [s2_]; rfl) (by decide) ?_
    refine qm_iload_n E_X8_holds (by rfl) dX8_holds_68 ?_
    refine qm_callS (As := [.int a3]) (rest := []) E_X8_holds rfl M_X8_isNumber rfl q1967 q1968 rfl rfl (Nat.le_of_ble_eq_true rfl) dX8_holds_69 (C_X8_isNumber (d := d) a3 S _ ?_)
    refine qm_if_eq E_X8_holds 84 dX8_holds_72 (by decide) (fun (c5 : (f_X8_isNumber a3) = 0) => ?_) (fun (c5 : ¬ (f_X8_isNumber a3) = 0) => ?_)
    · rw [if_pos c5] at hq
      refine qm_iconst E_X8_holds 0 (by decide) dX8_holds_84 ?_
      exact qm_zret E_X8_holds rfl (qm_nb (Or.inl rfl)) dX8_holds_85 hq
    · rw [if_neg c5] at hq
      refine qm_iload_n E_X8_holds (by rfl) dX8_holds_75 ?_
      refine qm_iload_n E_X8_holds (by rfl) dX8_holds_76 ?_
      refine qm_icmp_le E_X8_holds 84 dX8_holds_77 (by decide) (fun (c6 : a3 ≤ a2) => ?_) (fun (c6 : ¬ a3 ≤ a2) => ?_)
      · rw [if_pos c6] at hq
        refine qm_iconst E_X8_holds 0 (by decide) dX8_holds_84 ?_
        exact qm_zret E_X8_holds rfl (qm_nb (Or.inl rfl)) dX8_holds_85 hq
      · rw [if_neg c6] at hq
        refine qm_iconst E_X8_holds 1 (by decide) dX8_holds_80 ?_
        refine qm_goto E_X8_holds 85 dX8_holds_81 (by decide) ?_
        exact qm_zret E_X8_holds rfl (qm_nb (Or.inr rfl)) dX8_holds_85 hq
  rw [if_neg s2_] at hq
  by_cases s3_ : a1 = 3
  · rw [if_pos s3_] at hq
    refine qm_tableIn E_X8_holds 86 dX8_holds_1 (by rw [s3_]; decide) (by rw [s3_]; decide) (by rw [s3_]; rfl) (by decide) ?_
    refine qm_iload_n E_X8_holds (by rfl) dX8_holds_86 ?_
    refine qm_sipush E_X8_holds 5000 (by decide) dX8_holds_87 ?_
    refine qm_icmp_ne E_X8_holds 97 dX8_holds_90 (by decide) (fun (c7 : ¬ a3 = 5000) => ?_) (fun (c7 : a3 = 5000) => ?_)
    · rw [if_neg c7] at hq
      refine qm_iconst E_X8_holds 0 (by decide) dX8_holds_97 ?_
      exact qm_zret E_X8_holds rfl (qm_nb (Or.inl rfl)) dX8_holds_98 hq
    · rw [if_pos c7] at hq
      refine qm_iconst E_X8_holds 1 (by decide) dX8_holds_93 ?_
      refine qm_goto E_X8_holds 98 dX8_holds_94 (by decide) ?_
      exact qm_zret E_X8_holds rfl (qm_nb (Or.inr rfl)) dX8_holds_98 hq
  rw [if_neg s3_] at hq
  refine qm_tableOut E_X8_holds 99 dX8_holds_1 (qm_sw4 s0_ s1_ s2_ s3_) (by decide) ?_
  refine qm_iload_n E_X8_holds (by rfl) dX8_holds_99 ?_
  refine qm_sipush E_X8_holds 5001 (by decide) dX8_holds_100 ?_
  refine qm_icmp_ne E_X8_holds 110 dX8_holds_103 (by decide) (fun (c8 : ¬ a3 = 5001) => ?_) (fun (c8 : a3 = 5001) => ?_)
  · rw [if_neg c8] at hq
    refine qm_iconst E_X8_holds 0 (by decide) dX8_holds_110 ?_
    exact qm_zret E_X8_holds rfl (qm_nb (Or.inl rfl)) dX8_holds_111 hq
  · rw [if_pos c8] at hq
    refine qm_iconst E_X8_holds 1 (by decide) dX8_holds_106 ?_
    refine qm_goto E_X8_holds 111 dX8_holds_107 (by decide) ?_
    exact qm_zret E_X8_holds rfl (qm_nb (Or.inr rfl)) dX8_holds_111 hq
def I_X8_holdHere : qh_I := (yX8_holdHere, cX8_holdHere, 6, (Option.some Jvm.ClassFile.FieldType.boolean), [])
theorem E_X8_holdHere : I_X8_holdHere.2.1 = cX8_holdHere := rfl
theorem M_X8_holdHere : qh_M I_X8_holdHere 2 := ⟨by decide, by decide, by decide +kernel, q95, q2166, by decide⟩
def T_X8_holdHere (a1 a2 : Int32) (S : qm_S) (K : Int32 → Prop) : Prop := ∀ X1 : Int32 → Int32 → Prop, (∀ (x2 x3 : Int32), (((S.1 29) ≤ x3 → (x2 = 0 ∨ x2 = 1) ∧ K x2) ∧ (¬ (S.1 29) ≤ x3 → vp_in x3 (qm_len 31) ∧ (x2 = 0 → X1 0 (x3 + 1)) ∧ (¬ x2 = 0 → vp_in x3 (qm_len 30) ∧ (¬ (S.2 30 x3.toNatClampNeg) = a1 → X1 1 (x3 + 1)) ∧ ((S.2 30 x3.toNatClampNeg) = a1 → vp_in x3 (qm_len 32) ∧ vp_in x3 (qm_len 33) ∧ vp_in ((4 * ((12 * a1) + a2)) + (S.2 31 x3.toNatClampNeg)) (qm_len 59) ∧ ((f_X8_holds (S.2 32 x3.toNatClampNeg) (S.2 33 x3.toNatClampNeg) (S.2 59 ((4 * ((12 * a1) + a2)) + (S.2 31 x3.toNatClampNeg)).toNatClampNeg)) = 0 → X1 0 (x3 + 1)) ∧ (¬ (f_X8_holds (S.2 32 x3.toNatClampNeg) (S.2 33 x3.toNatClampNeg) (S.2 59 ((4 * ((12 * a1) + a2)) + (S.2 31 x3.toNatClampNeg)).toNatClampNeg)) = 0 → X1 1 (x3 + 1)))))) → X1 x2 x3) → X1 1 0
set_option maxHeartbeats 4000000 in
theorem C_X8_holdHere {M : qm_G} {d : Nat} (a1 a2 : Int32) (S : qm_S) (K : Int32 → Prop) (h : T_X8_holdHere a1 a2 S K) : qm_C M (d + 3) I_X8_holdHere [.ref M.2.2.1, .int a1, .int a2] S (fun v S' => ∃ r, v = some (.int r) ∧ (r = 0 ∨ r = 1) ∧ S = S' ∧ K r) := by
  refine qm_C.of (by decide) rfl (ls := [some (.ref M.2.2.1), some (.int a1), some (.int a2), none, none, none]) rfl (Nat.le_of_ble_eq_true rfl) (qm_ct rfl) ?_
  unfold T_X8_holdHere at h
  refine qm_iconst E_X8_holdHere 1 (by decide) dX8_holdHere_0 ?_
  refine qm_istore_n E_X8_holdHere (by decide) dX8_holdHere_1 ?_
  refine qm_iconst E_X8_holdHere 0 (by decide) dX8_holdHere_2 ?_
  refine qm_istore E_X8_holdHere (by decide) dX8_holdHere_3 ?_
  refine h (fun x2 x3 => qm_wp M (d + 3) I_X8_holdHere 5 [some (.ref M.2.2.1), some (.int a1), some (.int a2), some (.int x2), some (.int x3), none] [] S (fun v S' => ∃ r, v = some (.int r) ∧ (r = 0 ∨ r = 1) ∧ S = S' ∧ K r)) ?_
  intro x2 x3 h
  refine qm_iload E_X8_holdHere (by rfl) dX8_holdHere_5 ?_
  refine qm_aload_n E_X8_holdHere (by rfl) dX8_holdHere_7 ?_
  refine qm_get E_X8_holdHere rfl 29 (by decide) q1686 (v := .int (S.1 29)) rfl dX8_holdHere_8 ?_
  refine qm_icmp_ge E_X8_holdHere 86 dX8_holdHere_11 (by decide) (fun (c4 : (S.1 29) ≤ x3) => ?_) (fun (c4 : ¬ (S.1 29) ≤ x3) => ?_)
  · have h := h.1 c4
    refine qm_iload_n E_X8_holdHere (by rfl) dX8_holdHere_86 ?_
    obtain ⟨o5, h⟩ := h
    exact qm_zret E_X8_holdHere rfl (qm_nb o5) dX8_holdHere_87 ⟨_, rfl, o5, rfl, h⟩
  · have h := h.2 c4
    refine qm_iconst E_X8_holdHere 4 (by decide) dX8_holdHere_14 ?_
    refine qm_bipush E_X8_holdHere 12 (by decide) dX8_holdHere_15 ?_
    refine qm_iload_n E_X8_holdHere (by rfl) dX8_holdHere_17 ?_
    refine qm_imul E_X8_holdHere dX8_holdHere_18 ?_
    refine qm_iload_n E_X8_holdHere (by rfl) dX8_holdHere_19 ?_
    refine qm_iadd E_X8_holdHere dX8_holdHere_20 ?_
    refine qm_imul E_X8_holdHere dX8_holdHere_21 ?_
    refine qm_aload_n E_X8_holdHere (by rfl) dX8_holdHere_22 ?_
    refine qm_get E_X8_holdHere rfl 31 (by decide) q1688 (v := .ref (M.2.2.2 31)) rfl dX8_holdHere_23 ?_
    refine qm_iload E_X8_holdHere (by rfl) dX8_holdHere_26 ?_
    obtain ⟨o6, h⟩ := h
    refine qm_iald E_X8_holdHere 31 (by decide) rfl o6 dX8_holdHere_28 ?_
    refine qm_iadd E_X8_holdHere dX8_holdHere_29 ?_
    refine qm_istore E_X8_holdHere (by decide) dX8_holdHere_30 ?_
    refine qm_iload_n E_X8_holdHere (by rfl) dX8_holdHere_32 ?_
    refine qm_if_eq E_X8_holdHere 78 dX8_holdHere_33 (by decide) (fun (c7 : x2 = 0) => ?_) (fun (c7 : ¬ x2 = 0) => ?_)
    · have h := h.1 c7
      refine qm_iconst E_X8_holdHere 0 (by decide) dX8_holdHere_78 ?_
      refine qm_istore_n E_X8_holdHere (by decide) dX8_holdHere_79 ?_
      refine qm_iinc E_X8_holdHere 1 rfl (by decide) (by decide) dX8_holdHere_80 ?_
      refine qm_goto E_X8_holdHere 5 dX8_holdHere_83 (by decide) ?_
      refine qm_drop 5 ?_
      exact h
    · have h := h.2 c7
      refine qm_aload_n E_X8_holdHere (by rfl) dX8_holdHere_36 ?_
      refine qm_get E_X8_holdHere rfl 30 (by decide) q1687 (v := .ref (M.2.2.2 30)) rfl dX8_holdHere_37 ?_
      refine qm_iload E_X8_holdHere (by rfl) dX8_holdHere_40 ?_
      obtain ⟨o8, h⟩ := h
      refine qm_iald E_X8_holdHere 30 (by decide) rfl o8 dX8_holdHere_42 ?_
      refine qm_iload_n E_X8_holdHere (by rfl) dX8_holdHere_43 ?_
      refine qm_icmp_ne E_X8_holdHere 74 dX8_holdHere_44 (by decide) (fun (c9 : ¬ (S.2 30 x3.toNatClampNeg) = a1) => ?_) (fun (c9 : (S.2 30 x3.toNatClampNeg) = a1) => ?_)
      · have h := h.1 c9
        refine qm_iconst E_X8_holdHere 1 (by decide) dX8_holdHere_74 ?_
        refine qm_goto E_X8_holdHere 79 dX8_holdHere_75 (by decide) ?_
        refine qm_istore_n E_X8_holdHere (by decide) dX8_holdHere_79 ?_
        refine qm_iinc E_X8_holdHere 1 rfl (by decide) (by decide) dX8_holdHere_80 ?_
        refine qm_goto E_X8_holdHere 5 dX8_holdHere_83 (by decide) ?_
        refine qm_drop 5 ?_
        exact h
      · have h := h.2 c9
        refine qm_aload_n E_X8_holdHere (by rfl) dX8_holdHere_47 ?_
        refine qm_get E_X8_holdHere rfl 32 (by decide) q1689 (v := .ref (M.2.2.2 32)) rfl dX8_holdHere_48 ?_
        refine qm_iload E_X8_holdHere (by rfl) dX8_holdHere_51 ?_
        obtain ⟨o10, h⟩ := h
        refine qm_iald E_X8_holdHere 32 (by decide) rfl o10 dX8_holdHere_53 ?_
        refine qm_aload_n E_X8_holdHere (by rfl) dX8_holdHere_54 ?_
        refine qm_get E_X8_holdHere rfl 33 (by decide) q1690 (v := .ref (M.2.2.2 33)) rfl dX8_holdHere_55 ?_
        refine qm_iload E_X8_holdHere (by rfl) dX8_holdHere_58 ?_
        obtain ⟨o11, h⟩ := h
        refine qm_iald E_X8_holdHere 33 (by decide) rfl o11 dX8_holdHere_60 ?_
        refine qm_aload_n E_X8_holdHere (by rfl) dX8_holdHere_61 ?_
        refine qm_get E_X8_holdHere rfl 59 (by decide) q1716 (v := .ref (M.2.2.2 59)) rfl dX8_holdHere_62 ?_
        refine qm_iload E_X8_holdHere (by rfl) dX8_holdHere_65 ?_
        obtain ⟨o12, h⟩ := h
        refine qm_iald E_X8_holdHere 59 (by decide) rfl o12 dX8_holdHere_67 ?_
        refine qm_callS (As := [.int (S.2 32 x3.toNatClampNeg), .int (S.2 33 x3.toNatClampNeg), .int (S.2 59 ((4 * ((12 * a1) + a2)) + (S.2 31 x3.toNatClampNeg)).toNatClampNeg)]) (rest := []) E_X8_holdHere rfl M_X8_holds rfl q2167 q2168 rfl rfl (Nat.le_of_ble_eq_true rfl) dX8_holdHere_68 (C_X8_holds (d := d) (S.2 32 x3.toNatClampNeg) (S.2 33 x3.toNatClampNeg) (S.2 59 ((4 * ((12 * a1) + a2)) + (S.2 31 x3.toNatClampNeg)).toNatClampNeg) S _ ?_)
        refine qm_if_eq E_X8_holdHere 78 dX8_holdHere_71 (by decide) (fun (c13 : (f_X8_holds (S.2 32 x3.toNatClampNeg) (S.2 33 x3.toNatClampNeg) (S.2 59 ((4 * ((12 * a1) + a2)) + (S.2 31 x3.toNatClampNeg)).toNatClampNeg)) = 0) => ?_) (fun (c13 : ¬ (f_X8_holds (S.2 32 x3.toNatClampNeg) (S.2 33 x3.toNatClampNeg) (S.2 59 ((4 * ((12 * a1) + a2)) + (S.2 31 x3.toNatClampNeg)).toNatClampNeg)) = 0) => ?_)
        · have h := h.1 c13
          refine qm_iconst E_X8_holdHere 0 (by decide) dX8_holdHere_78 ?_
          refine qm_istore_n E_X8_holdHere (by decide) dX8_holdHere_79 ?_
          refine qm_iinc E_X8_holdHere 1 rfl (by decide) (by decide) dX8_holdHere_80 ?_
          refine qm_goto E_X8_holdHere 5 dX8_holdHere_83 (by decide) ?_
          refine qm_drop 5 ?_
          exact h
        · have h := h.2 c13
          refine qm_iconst E_X8_holdHere 1 (by decide) dX8_holdHere_74 ?_
          refine qm_goto E_X8_holdHere 79 dX8_holdHere_75 (by decide) ?_
          refine qm_istore_n E_X8_holdHere (by decide) dX8_holdHere_79 ?_
          refine qm_iinc E_X8_holdHere 1 rfl (by decide) (by decide) dX8_holdHere_80 ?_
          refine qm_goto E_X8_holdHere 5 dX8_holdHere_83 (by decide) ?_
          refine qm_drop 5 ?_
          exact h
def I_X8_isKey : qh_I := (yX8_isKey, cX8_isKey, 6, (Option.some Jvm.ClassFile.FieldType.boolean), [])
theorem E_X8_isKey : I_X8_isKey.2.1 = cX8_isKey := rfl
theorem M_X8_isKey : qh_M I_X8_isKey 3 := ⟨by decide, by decide, by decide +kernel, q95, q2173, by decide⟩
def T_X8_isKey (a1 a2 a3 : Int32) (S : qm_S) (K : Int32 → Prop) : Prop := ∀ X1 : Int32 → Int32 → Prop, (∀ (x2 x3 : Int32), ((a3 ≤ x3 → (x2 = 0 ∨ x2 = 1) ∧ K x2) ∧ (¬ a3 ≤ x3 → (¬ x2 = 0 → X1 1 (x3 + 1)) ∧ (x2 = 0 → vp_in x3 (qm_len 64) ∧ (¬ (S.2 64 x3.toNatClampNeg) = a1 → X1 0 (x3 + 1)) ∧ ((S.2 64 x3.toNatClampNeg) = a1 → X1 1 (x3 + 1))))) → X1 x2 x3) → X1 0 a2
set_option maxHeartbeats 4000000 in
theorem C_X8_isKey {M : qm_G} {d : Nat} (a1 a2 a3 : Int32) (S : qm_S) (K : Int32 → Prop) (h : T_X8_isKey a1 a2 a3 S K) : qm_C M (d + 0) I_X8_isKey [.ref M.2.2.1, .int a1, .int a2, .int a3] S (fun v S' => ∃ r, v = some (.int r) ∧ (r = 0 ∨ r = 1) ∧ S = S' ∧ K r) := by
  refine qm_C.of (by decide) rfl (ls := [some (.ref M.2.2.1), some (.int a1), some (.int a2), some (.int a3), none, none]) rfl (Nat.le_of_ble_eq_true rfl) (qm_ct rfl) ?_
  unfold T_X8_isKey at h
  refine qm_iconst E_X8_isKey 0 (by decide) dX8_isKey_0 ?_
  refine qm_istore E_X8_isKey (by decide) dX8_isKey_1 ?_
  refine qm_iload_n E_X8_isKey (by rfl) dX8_isKey_3 ?_
  refine qm_istore E_X8_isKey (by decide) dX8_isKey_4 ?_
  refine h (fun x2 x3 => qm_wp M (d + 0) I_X8_isKey 6 [some (.ref M.2.2.1), some (.int a1), some (.int a2), some (.int a3), some (.int x2), some (.int x3)] [] S (fun v S' => ∃ r, v = some (.int r) ∧ (r = 0 ∨ r = 1) ∧ S = S' ∧ K r)) ?_
  intro x2 x3 h
  refine qm_iload E_X8_isKey (by rfl) dX8_isKey_6 ?_
  refine qm_iload_n E_X8_isKey (by rfl) dX8_isKey_8 ?_
  refine qm_icmp_ge E_X8_isKey 41 dX8_isKey_9 (by decide) (fun (c4 : a3 ≤ x3) => ?_) (fun (c4 : ¬ a3 ≤ x3) => ?_)
  · have h := h.1 c4
    refine qm_iload E_X8_isKey (by rfl) dX8_isKey_41 ?_
    obtain ⟨o5, h⟩ := h
    exact qm_zret E_X8_isKey rfl (qm_nb o5) dX8_isKey_43 ⟨_, rfl, o5, rfl, h⟩
  · have h := h.2 c4
    refine qm_iload E_X8_isKey (by rfl) dX8_isKey_12 ?_
    refine qm_if_ne E_X8_isKey 28 dX8_isKey_14 (by decide) (fun (c6 : ¬ x2 = 0) => ?_) (fun (c6 : x2 = 0) => ?_)
    · have h := h.1 c6
      refine qm_iconst E_X8_isKey 1 (by decide) dX8_isKey_28 ?_
      refine qm_goto E_X8_isKey 33 dX8_isKey_29 (by decide) ?_
      refine qm_istore E_X8_isKey (by decide) dX8_isKey_33 ?_
      refine qm_iinc E_X8_isKey 1 rfl (by decide) (by decide) dX8_isKey_35 ?_
      refine qm_goto E_X8_isKey 6 dX8_isKey_38 (by decide) ?_
      exact h
    · have h := h.2 c6
      refine qm_aload_n E_X8_isKey (by rfl) dX8_isKey_17 ?_
      refine qm_get E_X8_isKey rfl 64 (by decide) q1721 (v := .ref (M.2.2.2 64)) rfl dX8_isKey_18 ?_
      refine qm_iload E_X8_isKey (by rfl) dX8_isKey_21 ?_
      obtain ⟨o7, h⟩ := h
      refine qm_iald E_X8_isKey 64 (by decide) rfl o7 dX8_isKey_23 ?_
      refine qm_iload_n E_X8_isKey (by rfl) dX8_isKey_24 ?_
      refine qm_icmp_ne E_X8_isKey 32 dX8_isKey_25 (by decide) (fun (c8 : ¬ (S.2 64 x3.toNatClampNeg) = a1) => ?_) (fun (c8 : (S.2 64 x3.toNatClampNeg) = a1) => ?_)
      · have h := h.1 c8
        refine qm_iconst E_X8_isKey 0 (by decide) dX8_isKey_32 ?_
        refine qm_istore E_X8_isKey (by decide) dX8_isKey_33 ?_
        refine qm_iinc E_X8_isKey 1 rfl (by decide) (by decide) dX8_isKey_35 ?_
        refine qm_goto E_X8_isKey 6 dX8_isKey_38 (by decide) ?_
        exact h
      · have h := h.2 c8
        refine qm_iconst E_X8_isKey 1 (by decide) dX8_isKey_28 ?_
        refine qm_goto E_X8_isKey 33 dX8_isKey_29 (by decide) ?_
        refine qm_istore E_X8_isKey (by decide) dX8_isKey_33 ?_
        refine qm_iinc E_X8_isKey 1 rfl (by decide) (by decide) dX8_isKey_35 ?_
        refine qm_goto E_X8_isKey 6 dX8_isKey_38 (by decide) ?_
        exact h
def I_X8_laysKeys : qh_I := (yX8_laysKeys, cX8_laysKeys, 6, (Option.none : Option Jvm.ClassFile.FieldType), [])
theorem E_X8_laysKeys : I_X8_laysKeys.2.1 = cX8_laysKeys := rfl
theorem M_X8_laysKeys : qh_M I_X8_laysKeys 2 := ⟨by decide, by decide, by decide +kernel, q95, q2162, by decide⟩
def T_X8_laysKeys (a1 a2 : Int32) (S : qm_S) (K : qm_S → Prop) : Prop := ∀ X1 : Int32 → qm_S → Prop, (∀ (x2 : Int32) (S3 : qm_S), (vp_in a1 (qm_len 57) ∧ ((S3.2 57 a1.toNatClampNeg) ≤ x2 → K S3) ∧ (¬ (S3.2 57 a1.toNatClampNeg) ≤ x2 → vp_in ((4 * ((12 * a1) + x2)) + a2) (qm_len 59) ∧ ((f_X8_isNumber (S3.2 59 ((4 * ((12 * a1) + x2)) + a2).toNatClampNeg)) = 0 → X1 (x2 + 1) S3) ∧ (¬ (f_X8_isNumber (S3.2 59 ((4 * ((12 * a1) + x2)) + a2).toNatClampNeg)) = 0 → T_X8_holdHere a1 x2 S3 (fun r8 => (r8 = 0 → X1 (x2 + 1) S3) ∧ (¬ r8 = 0 → T_X8_isKey (S3.2 59 ((4 * ((12 * a1) + x2)) + a2).toNatClampNeg) 0 (S3.1 63) S3 (fun r11 => (¬ r11 = 0 → X1 (x2 + 1) S3) ∧ (r11 = 0 → ∀ X14 : Int32 → qm_S → Prop, (∀ (x15 : Int32) (S16 : qm_S), (∀ J21 : Prop, ((vp_in x15 (qm_len 64) ∧ X1 (x2 + 1) ((upd S16.1 63 ((S16.1 63) + 1), qm_uA S16.2 64 (upd (S16.2 64) x15.toNatClampNeg (S3.2 59 ((4 * ((12 * a1) + x2)) + a2).toNatClampNeg))))) → J21) → (x15 ≤ 0 → J21) ∧ (¬ x15 ≤ 0 → vp_in (x15 - 1) (qm_len 64) ∧ ((S16.2 64 (x15 - 1).toNatClampNeg) ≤ (S3.2 59 ((4 * ((12 * a1) + x2)) + a2).toNatClampNeg) → J21) ∧ (¬ (S16.2 64 (x15 - 1).toNatClampNeg) ≤ (S3.2 59 ((4 * ((12 * a1) + x2)) + a2).toNatClampNeg) → vp_in x15 (qm_len 64) ∧ X14 (x15 + (-1)) ((S16.1, qm_uA S16.2 64 (upd (S16.2 64) x15.toNatClampNeg (S16.2 64 (x15 - 1).toNatClampNeg))))))) → X14 x15 S16) → X14 (S3.1 63) S3))))))) → X1 x2 S3) → X1 0 ((upd S.1 63 0, S.2))
set_option maxHeartbeats 4000000 in
theorem C_X8_laysKeys {M : qm_G} {d : Nat} (a1 a2 : Int32) (S : qm_S) (K : qm_S → Prop) (h : T_X8_laysKeys a1 a2 S K) : qm_C M (d + 4) I_X8_laysKeys [.ref M.2.2.1, .int a1, .int a2] S (fun v S' => v = none ∧ K S') := by
  refine qm_C.of (by decide) rfl (ls := [some (.ref M.2.2.1), some (.int a1), some (.int a2), none, none, none]) rfl (Nat.le_of_ble_eq_true rfl) (qm_ct rfl) ?_
  unfold T_X8_laysKeys at h
  refine qm_aload_n E_X8_laysKeys (by rfl) dX8_laysKeys_0 ?_
  refine qm_iconst E_X8_laysKeys 0 (by decide) dX8_laysKeys_1 ?_
  refine qm_put E_X8_laysKeys rfl 63 (by decide) q1720 rfl rfl rfl (qm_set63) dX8_laysKeys_2 ?_
  refine qm_iconst E_X8_laysKeys 0 (by decide) dX8_laysKeys_5 ?_
  refine qm_istore_n E_X8_laysKeys (by decide) dX8_laysKeys_6 ?_
  refine h (fun x2 S3 => qm_wp M (d + 4) I_X8_laysKeys 7 [some (.ref M.2.2.1), some (.int a1), some (.int a2), some (.int x2), none, none] [] S3 (fun v S' => v = none ∧ K S')) ?_
  intro x2 S3 h
  refine qm_iload_n E_X8_laysKeys (by rfl) dX8_laysKeys_7 ?_
  refine qm_aload_n E_X8_laysKeys (by rfl) dX8_laysKeys_8 ?_
  refine qm_get E_X8_laysKeys rfl 57 (by decide) q1714 (v := .ref (M.2.2.2 57)) rfl dX8_laysKeys_9 ?_
  refine qm_iload_n E_X8_laysKeys (by rfl) dX8_laysKeys_12 ?_
  obtain ⟨o4, h⟩ := h
  refine qm_iald E_X8_laysKeys 57 (by decide) rfl o4 dX8_laysKeys_13 ?_
  refine qm_icmp_ge E_X8_laysKeys 137 dX8_laysKeys_14 (by decide) (fun (c5 : (S3.2 57 a1.toNatClampNeg) ≤ x2) => ?_) (fun (c5 : ¬ (S3.2 57 a1.toNatClampNeg) ≤ x2) => ?_)
  · have h := h.1 c5
    exact qm_vret E_X8_laysKeys rfl dX8_laysKeys_137 ⟨rfl, h⟩
  · have h := h.2 c5
    refine qm_aload_n E_X8_laysKeys (by rfl) dX8_laysKeys_17 ?_
    refine qm_get E_X8_laysKeys rfl 59 (by decide) q1716 (v := .ref (M.2.2.2 59)) rfl dX8_laysKeys_18 ?_
    refine qm_iconst E_X8_laysKeys 4 (by decide) dX8_laysKeys_21 ?_
    refine qm_bipush E_X8_laysKeys 12 (by decide) dX8_laysKeys_22 ?_
    refine qm_iload_n E_X8_laysKeys (by rfl) dX8_laysKeys_24 ?_
    refine qm_imul E_X8_laysKeys dX8_laysKeys_25 ?_
    refine qm_iload_n E_X8_laysKeys (by rfl) dX8_laysKeys_26 ?_
    refine qm_iadd E_X8_laysKeys dX8_laysKeys_27 ?_
    refine qm_imul E_X8_laysKeys dX8_laysKeys_28 ?_
    refine qm_iload_n E_X8_laysKeys (by rfl) dX8_laysKeys_29 ?_
    refine qm_iadd E_X8_laysKeys dX8_laysKeys_30 ?_
    obtain ⟨o6, h⟩ := h
    refine qm_iald E_X8_laysKeys 59 (by decide) rfl o6 dX8_laysKeys_31 ?_
    refine qm_istore E_X8_laysKeys (by decide) dX8_laysKeys_32 ?_
    refine qm_iload E_X8_laysKeys (by rfl) dX8_laysKeys_34 ?_
    refine qm_callS (As := [.int (S3.2 59 ((4 * ((12 * a1) + x2)) + a2).toNatClampNeg)]) (rest := []) E_X8_laysKeys rfl M_X8_isNumber rfl q1967 q1968 rfl rfl (Nat.le_of_ble_eq_true rfl) dX8_laysKeys_36 (C_X8_isNumber (d := d + 2) (S3.2 59 ((4 * ((12 * a1) + x2)) + a2).toNatClampNeg) S3 _ ?_)
    refine qm_if_eq E_X8_laysKeys 131 dX8_laysKeys_39 (by decide) (fun (c7 : (f_X8_isNumber (S3.2 59 ((4 * ((12 * a1) + x2)) + a2).toNatClampNeg)) = 0) => ?_) (fun (c7 : ¬ (f_X8_isNumber (S3.2 59 ((4 * ((12 * a1) + x2)) + a2).toNatClampNeg)) = 0) => ?_)
    · have h := h.1 c7
      refine qm_iinc E_X8_laysKeys 1 rfl (by decide) (by decide) dX8_laysKeys_131 ?_
      refine qm_goto E_X8_laysKeys 7 dX8_laysKeys_134 (by decide) ?_
      refine qm_drop 4 ?_
      exact h
    · have h := h.2 c7
      refine qm_aload_n E_X8_laysKeys (by rfl) dX8_laysKeys_42 ?_
      refine qm_iload_n E_X8_laysKeys (by rfl) dX8_laysKeys_43 ?_
      refine qm_iload_n E_X8_laysKeys (by rfl) dX8_laysKeys_44 ?_
      refine qm_callV (As := [.int a1, .int x2]) (rest := []) E_X8_laysKeys rfl M_X8_holdHere rfl q2163 q2165 qs60 rfl rfl rfl (Nat.le_of_ble_eq_true rfl) dX8_laysKeys_45 (qm_C.mono ?_ (C_X8_holdHere (d := d) a1 x2 S3 _ h))
      rintro _ _ ⟨r8, rfl, z9, rfl, h⟩
      refine qm_if_eq E_X8_laysKeys 131 dX8_laysKeys_48 (by decide) (fun (c10 : r8 = 0) => ?_) (fun (c10 : ¬ r8 = 0) => ?_)
      · have h := h.1 c10
        refine qm_iinc E_X8_laysKeys 1 rfl (by decide) (by decide) dX8_laysKeys_131 ?_
        refine qm_goto E_X8_laysKeys 7 dX8_laysKeys_134 (by decide) ?_
        refine qm_drop 4 ?_
        exact h
      · have h := h.2 c10
        refine qm_aload_n E_X8_laysKeys (by rfl) dX8_laysKeys_51 ?_
        refine qm_iload E_X8_laysKeys (by rfl) dX8_laysKeys_52 ?_
        refine qm_iconst E_X8_laysKeys 0 (by decide) dX8_laysKeys_54 ?_
        refine qm_aload_n E_X8_laysKeys (by rfl) dX8_laysKeys_55 ?_
        refine qm_get E_X8_laysKeys rfl 63 (by decide) q1720 (v := .int (S3.1 63)) rfl dX8_laysKeys_56 ?_
        refine qm_callV (As := [.int (S3.2 59 ((4 * ((12 * a1) + x2)) + a2).toNatClampNeg), .int 0, .int (S3.1 63)]) (rest := []) E_X8_laysKeys rfl M_X8_isKey rfl q2170 q2172 qs61 rfl rfl rfl (Nat.le_of_ble_eq_true rfl) dX8_laysKeys_59 (qm_C.mono ?_ (C_X8_isKey (d := d + 3) (S3.2 59 ((4 * ((12 * a1) + x2)) + a2).toNatClampNeg) 0 (S3.1 63) S3 _ h))
        rintro _ _ ⟨r11, rfl, z12, rfl, h⟩
        refine qm_if_ne E_X8_laysKeys 131 dX8_laysKeys_62 (by decide) (fun (c13 : ¬ r11 = 0) => ?_) (fun (c13 : r11 = 0) => ?_)
        · have h := h.1 c13
          refine qm_iinc E_X8_laysKeys 1 rfl (by decide) (by decide) dX8_laysKeys_131 ?_
          refine qm_goto E_X8_laysKeys 7 dX8_laysKeys_134 (by decide) ?_
          refine qm_drop 4 ?_
          exact h
        · have h := h.2 c13
          refine qm_aload_n E_X8_laysKeys (by rfl) dX8_laysKeys_65 ?_
          refine qm_get E_X8_laysKeys rfl 63 (by decide) q1720 (v := .int (S3.1 63)) rfl dX8_laysKeys_66 ?_
          refine qm_istore E_X8_laysKeys (by decide) dX8_laysKeys_69 ?_
          refine h (fun x15 S16 => qm_wp M (d + 4) I_X8_laysKeys 71 [some (.ref M.2.2.1), some (.int a1), some (.int a2), some (.int x2), some (.int (S3.2 59 ((4 * ((12 * a1) + x2)) + a2).toNatClampNeg)), some (.int x15)] [] S16 (fun v S' => v = none ∧ K S')) ?_
          intro x15 S16 h
          refine qm_iload E_X8_laysKeys (by rfl) dX8_laysKeys_71 ?_
          have h := h (qm_wp M (d + 4) I_X8_laysKeys 112 [some (.ref M.2.2.1), some (.int a1), some (.int a2), some (.int x2), some (.int (S3.2 59 ((4 * ((12 * a1) + x2)) + a2).toNatClampNeg)), some (.int x15)] [] S16 (fun v S' => v = none ∧ K S')) (by
            intro h
            refine qm_aload_n E_X8_laysKeys (by rfl) dX8_laysKeys_112 ?_
            refine qm_get E_X8_laysKeys rfl 64 (by decide) q1721 (v := .ref (M.2.2.2 64)) rfl dX8_laysKeys_113 ?_
            refine qm_iload E_X8_laysKeys (by rfl) dX8_laysKeys_116 ?_
            refine qm_iload E_X8_laysKeys (by rfl) dX8_laysKeys_118 ?_
            obtain ⟨o22, h⟩ := h
            refine qm_iast E_X8_laysKeys 64 (by decide) rfl o22 dX8_laysKeys_120 ?_
            refine qm_aload_n E_X8_laysKeys (by rfl) dX8_laysKeys_121 ?_
            refine qm_dup E_X8_laysKeys rfl dX8_laysKeys_122 ?_
            refine qm_get E_X8_laysKeys rfl 63 (by decide) q1720 (v := .int (S16.1 63)) rfl dX8_laysKeys_123 ?_
            refine qm_iconst E_X8_laysKeys 1 (by decide) dX8_laysKeys_126 ?_
            refine qm_iadd E_X8_laysKeys dX8_laysKeys_127 ?_
            refine qm_put E_X8_laysKeys rfl 63 (by decide) q1720 rfl rfl rfl (qm_set63) dX8_laysKeys_128 ?_
            refine qm_iinc E_X8_laysKeys 1 rfl (by decide) (by decide) dX8_laysKeys_131 ?_
            refine qm_goto E_X8_laysKeys 7 dX8_laysKeys_134 (by decide) ?_
            refine qm_drop 4 ?_
            refine qm_drop 5 ?_
            exact h)
          refine qm_if_le E_X8_laysKeys 112 dX8_laysKeys_73 (by decide) (fun (c17 : x15 ≤ 0) => ?_) (fun (c17 : ¬ x15 ≤ 0) => ?_)
          · have h := h.1 c17
            exact h
          · have h := h.2 c17
            refine qm_aload_n E_X8_laysKeys (by rfl) dX8_laysKeys_76 ?_
            refine qm_get E_X8_laysKeys rfl 64 (by decide) q1721 (v := .ref (M.2.2.2 64)) rfl dX8_laysKeys_77 ?_
            refine qm_iload E_X8_laysKeys (by rfl) dX8_laysKeys_80 ?_
            refine qm_iconst E_X8_laysKeys 1 (by decide) dX8_laysKeys_82 ?_
            refine qm_isub E_X8_laysKeys dX8_laysKeys_83 ?_
            obtain ⟨o18, h⟩ := h
            refine qm_iald E_X8_laysKeys 64 (by decide) rfl o18 dX8_laysKeys_84 ?_
            refine qm_iload E_X8_laysKeys (by rfl) dX8_laysKeys_85 ?_
            refine qm_icmp_le E_X8_laysKeys 112 dX8_laysKeys_87 (by decide) (fun (c19 : (S16.2 64 (x15 - 1).toNatClampNeg) ≤ (S3.2 59 ((4 * ((12 * a1) + x2)) + a2).toNatClampNeg)) => ?_) (fun (c19 : ¬ (S16.2 64 (x15 - 1).toNatClampNeg) ≤ (S3.2 59 ((4 * ((12 * a1) + x2)) + a2).toNatClampNeg)) => ?_)
            · have h := h.1 c19
              exact h
            · have h := h.2 c19
              refine qm_aload_n E_X8_laysKeys (by rfl) dX8_laysKeys_90 ?_
              refine qm_get E_X8_laysKeys rfl 64 (by decide) q1721 (v := .ref (M.2.2.2 64)) rfl dX8_laysKeys_91 ?_
              refine qm_iload E_X8_laysKeys (by rfl) dX8_laysKeys_94 ?_
              refine qm_aload_n E_X8_laysKeys (by rfl) dX8_laysKeys_96 ?_
              refine qm_get E_X8_laysKeys rfl 64 (by decide) q1721 (v := .ref (M.2.2.2 64)) rfl dX8_laysKeys_97 ?_
              refine qm_iload E_X8_laysKeys (by rfl) dX8_laysKeys_100 ?_
              refine qm_iconst E_X8_laysKeys 1 (by decide) dX8_laysKeys_102 ?_
              refine qm_isub E_X8_laysKeys dX8_laysKeys_103 ?_
              refine qm_iald E_X8_laysKeys 64 (by decide) rfl o18 dX8_laysKeys_104 ?_
              obtain ⟨o20, h⟩ := h
              refine qm_iast E_X8_laysKeys 64 (by decide) rfl o20 dX8_laysKeys_105 ?_
              refine qm_iinc E_X8_laysKeys (-1) rfl (by decide) (by decide) dX8_laysKeys_106 ?_
              refine qm_goto E_X8_laysKeys 71 dX8_laysKeys_109 (by decide) ?_
              exact h
def I_X8_canBind : qh_I := (yX8_canBind, cX8_canBind, 7, (Option.some Jvm.ClassFile.FieldType.boolean), [])
theorem E_X8_canBind : I_X8_canBind.2.1 = cX8_canBind := rfl
theorem M_X8_canBind : qh_M I_X8_canBind 2 := ⟨by decide, by decide, by decide +kernel, q95, q2158, by decide⟩
def T_X8_canBind (a1 a2 : Int32) (S : qm_S) (K : Int32 → qm_S → Prop) : Prop := vp_in a2 (qm_len 25) ∧ ((((if (S.2 25 a2.toNatClampNeg) = a1 then (1 : Int32) else (0 : Int32))) = 0 → vp_in a2 (qm_len 28)) ∧ (¬ ((if (S.2 25 a2.toNatClampNeg) = a1 then (1 : Int32) else (0 : Int32))) = 0 → vp_in a2 (qm_len 26))) ∧ ((((if (S.2 25 a2.toNatClampNeg) = a1 then (1 : Int32) else (0 : Int32))) = 0 → True) ∧ (¬ ((if (S.2 25 a2.toNatClampNeg) = a1 then (1 : Int32) else (0 : Int32))) = 0 → vp_in a2 (qm_len 27))) ∧ vp_in a1 (qm_len 23) ∧ ((f_X8_canDo (f_X8_storeOf (S.2 23 a1.toNatClampNeg)) ((if ((if (S.2 25 a2.toNatClampNeg) = a1 then (1 : Int32) else (0 : Int32))) = 0 then S.2 28 a2.toNatClampNeg else S.2 26 a2.toNatClampNeg)) 0) = 0 → K 0 S) ∧ (¬ (f_X8_canDo (f_X8_storeOf (S.2 23 a1.toNatClampNeg)) ((if ((if (S.2 25 a2.toNatClampNeg) = a1 then (1 : Int32) else (0 : Int32))) = 0 then S.2 28 a2.toNatClampNeg else S.2 26 a2.toNatClampNeg)) 0) = 0 → vp_in ((if ((if (S.2 25 a2.toNatClampNeg) = a1 then (1 : Int32) else (0 : Int32))) = 0 then S.2 25 a2.toNatClampNeg else S.2 27 a2.toNatClampNeg)) (qm_len 23) ∧ p_X8_isForbidden (S.2 23 ((if ((if (S.2 25 a2.toNatClampNeg) = a1 then (1 : Int32) else (0 : Int32))) = 0 then S.2 25 a2.toNatClampNeg else S.2 27 a2.toNatClampNeg)).toNatClampNeg) (f_X8_storeOf (S.2 23 a1.toNatClampNeg)) S ∧ ((f_X8_isForbidden (S.2 23 ((if ((if (S.2 25 a2.toNatClampNeg) = a1 then (1 : Int32) else (0 : Int32))) = 0 then S.2 25 a2.toNatClampNeg else S.2 27 a2.toNatClampNeg)).toNatClampNeg) (f_X8_storeOf (S.2 23 a1.toNatClampNeg)) S) = 0 → ((((if (S.2 25 a2.toNatClampNeg) = a1 then (1 : Int32) else (0 : Int32))) = 0 → vp_in a2 (qm_len 26)) ∧ (¬ ((if (S.2 25 a2.toNatClampNeg) = a1 then (1 : Int32) else (0 : Int32))) = 0 → vp_in a2 (qm_len 28))) ∧ T_X8_laysKeys ((if ((if (S.2 25 a2.toNatClampNeg) = a1 then (1 : Int32) else (0 : Int32))) = 0 then S.2 25 a2.toNatClampNeg else S.2 27 a2.toNatClampNeg)) ((if ((if (S.2 25 a2.toNatClampNeg) = a1 then (1 : Int32) else (0 : Int32))) = 0 then S.2 26 a2.toNatClampNeg else S.2 28 a2.toNatClampNeg)) S (fun S20 => vp_in (f_X8_storeOf (S.2 23 a1.toNatClampNeg)) (qm_len 18) ∧ vp_in (f_X8_storeOf (S.2 23 a1.toNatClampNeg)) (qm_len 19) ∧ T_X8_guess a1 S20 (fun r23 => (((S20.2 18 (f_X8_storeOf (S.2 23 a1.toNatClampNeg)).toNatClampNeg) + (r23 * (S20.2 19 (f_X8_storeOf (S.2 23 a1.toNatClampNeg)).toNatClampNeg))) ≤ (((((S20.1 63) + 3) / 4) * (S20.2 18 (f_X8_storeOf (S.2 23 a1.toNatClampNeg)).toNatClampNeg)) + ((S20.1 63) * (S20.2 19 (f_X8_storeOf (S.2 23 a1.toNatClampNeg)).toNatClampNeg))) → K 0 S20) ∧ (¬ ((S20.2 18 (f_X8_storeOf (S.2 23 a1.toNatClampNeg)).toNatClampNeg) + (r23 * (S20.2 19 (f_X8_storeOf (S.2 23 a1.toNatClampNeg)).toNatClampNeg))) ≤ (((((S20.1 63) + 3) / 4) * (S20.2 18 (f_X8_storeOf (S.2 23 a1.toNatClampNeg)).toNatClampNeg)) + ((S20.1 63) * (S20.2 19 (f_X8_storeOf (S.2 23 a1.toNatClampNeg)).toNatClampNeg))) → K 1 S20)))) ∧ (¬ (f_X8_isForbidden (S.2 23 ((if ((if (S.2 25 a2.toNatClampNeg) = a1 then (1 : Int32) else (0 : Int32))) = 0 then S.2 25 a2.toNatClampNeg else S.2 27 a2.toNatClampNeg)).toNatClampNeg) (f_X8_storeOf (S.2 23 a1.toNatClampNeg)) S) = 0 → K 0 S))
set_option maxHeartbeats 4000000 in
theorem C_X8_canBind {M : qm_G} {d : Nat} (a1 a2 : Int32) (S : qm_S) (K : Int32 → qm_S → Prop) (h : T_X8_canBind a1 a2 S K) : qm_C M (d + 5) I_X8_canBind [.ref M.2.2.1, .int a1, .int a2] S (fun v S' => ∃ r, v = some (.int r) ∧ (r = 0 ∨ r = 1) ∧ K r S') := by
  refine qm_C.of (by decide) rfl (ls := [some (.ref M.2.2.1), some (.int a1), some (.int a2), none, none, none, none]) rfl (Nat.le_of_ble_eq_true rfl) (qm_ct rfl) ?_
  unfold T_X8_canBind at h
  refine qm_aload_n E_X8_canBind (by rfl) dX8_canBind_0 ?_
  refine qm_get E_X8_canBind rfl 25 (by decide) q1682 (v := .ref (M.2.2.2 25)) rfl dX8_canBind_1 ?_
  refine qm_iload_n E_X8_canBind (by rfl) dX8_canBind_4 ?_
  obtain ⟨o1, h⟩ := h
  refine qm_iald E_X8_canBind 25 (by decide) rfl o1 dX8_canBind_5 ?_
  refine qm_iload_n E_X8_canBind (by rfl) dX8_canBind_6 ?_
  have Jv3 : ∀ v3 : Int32, v3 = (if (S.2 25 a2.toNatClampNeg) = a1 then (1 : Int32) else (0 : Int32)) → qm_wp M (d + 5) I_X8_canBind 15 [some (.ref M.2.2.1), some (.int a1), some (.int a2), none, none, none, none] [.int v3] S (fun v S' => ∃ r, v = some (.int r) ∧ (r = 0 ∨ r = 1) ∧ K r S') := by
    rintro _ rfl
    refine qm_istore_n E_X8_canBind (by decide) dX8_canBind_15 ?_
    refine qm_iload_n E_X8_canBind (by rfl) dX8_canBind_16 ?_
    obtain ⟨h9, h⟩ := h
    have Jv7 : ∀ v7 : Int32, v7 = (if ((if (S.2 25 a2.toNatClampNeg) = a1 then (1 : Int32) else (0 : Int32))) = 0 then S.2 28 a2.toNatClampNeg else S.2 26 a2.toNatClampNeg) → qm_wp M (d + 5) I_X8_canBind 35 [some (.ref M.2.2.1), some (.int a1), some (.int a2), some (.int ((if (S.2 25 a2.toNatClampNeg) = a1 then (1 : Int32) else (0 : Int32)))), none, none, none] [.int v7] S (fun v S' => ∃ r, v = some (.int r) ∧ (r = 0 ∨ r = 1) ∧ K r S') := by
      rintro _ rfl
      refine qm_istore E_X8_canBind (by decide) dX8_canBind_35 ?_
      refine qm_iload_n E_X8_canBind (by rfl) dX8_canBind_37 ?_
      obtain ⟨h9, h⟩ := h
      have Jv10 : ∀ v10 : Int32, v10 = (if ((if (S.2 25 a2.toNatClampNeg) = a1 then (1 : Int32) else (0 : Int32))) = 0 then S.2 25 a2.toNatClampNeg else S.2 27 a2.toNatClampNeg) → qm_wp M (d + 5) I_X8_canBind 56 [some (.ref M.2.2.1), some (.int a1), some (.int a2), some (.int ((if (S.2 25 a2.toNatClampNeg) = a1 then (1 : Int32) else (0 : Int32)))), some (.int ((if ((if (S.2 25 a2.toNatClampNeg) = a1 then (1 : Int32) else (0 : Int32))) = 0 then S.2 28 a2.toNatClampNeg else S.2 26 a2.toNatClampNeg))), none, none] [.int v10] S (fun v S' => ∃ r, v = some (.int r) ∧ (r = 0 ∨ r = 1) ∧ K r S') := by
        rintro _ rfl
        refine qm_istore E_X8_canBind (by decide) dX8_canBind_56 ?_
        refine qm_aload_n E_X8_canBind (by rfl) dX8_canBind_58 ?_
        refine qm_get E_X8_canBind rfl 23 (by decide) q1680 (v := .ref (M.2.2.2 23)) rfl dX8_canBind_59 ?_
        refine qm_iload_n E_X8_canBind (by rfl) dX8_canBind_62 ?_
        obtain ⟨o11, h⟩ := h
        refine qm_iald E_X8_canBind 23 (by decide) rfl o11 dX8_canBind_63 ?_
        refine qm_callS (As := [.int (S.2 23 a1.toNatClampNeg)]) (rest := []) E_X8_canBind rfl M_X8_storeOf rfl q1964 q1965 rfl rfl (Nat.le_of_ble_eq_true rfl) dX8_canBind_64 (C_X8_storeOf (d := d + 4) (S.2 23 a1.toNatClampNeg) S _ ?_)
        refine qm_istore E_X8_canBind (by decide) dX8_canBind_67 ?_
        refine qm_iload E_X8_canBind (by rfl) dX8_canBind_69 ?_
        refine qm_iload E_X8_canBind (by rfl) dX8_canBind_71 ?_
        refine qm_iconst E_X8_canBind 0 (by decide) dX8_canBind_73 ?_
        refine qm_callS (As := [.int (f_X8_storeOf (S.2 23 a1.toNatClampNeg)), .int ((if ((if (S.2 25 a2.toNatClampNeg) = a1 then (1 : Int32) else (0 : Int32))) = 0 then S.2 28 a2.toNatClampNeg else S.2 26 a2.toNatClampNeg)), .int 0]) (rest := []) E_X8_canBind rfl M_X8_canDo rfl q2133 q2134 rfl rfl (Nat.le_of_ble_eq_true rfl) dX8_canBind_74 (C_X8_canDo (d := d + 4) (f_X8_storeOf (S.2 23 a1.toNatClampNeg)) ((if ((if (S.2 25 a2.toNatClampNeg) = a1 then (1 : Int32) else (0 : Int32))) = 0 then S.2 28 a2.toNatClampNeg else S.2 26 a2.toNatClampNeg)) 0 S _ ?_)
        refine qm_if_eq E_X8_canBind 96 dX8_canBind_77 (by decide) (fun (c12 : (f_X8_canDo (f_X8_storeOf (S.2 23 a1.toNatClampNeg)) ((if ((if (S.2 25 a2.toNatClampNeg) = a1 then (1 : Int32) else (0 : Int32))) = 0 then S.2 28 a2.toNatClampNeg else S.2 26 a2.toNatClampNeg)) 0) = 0) => ?_) (fun (c12 : ¬ (f_X8_canDo (f_X8_storeOf (S.2 23 a1.toNatClampNeg)) ((if ((if (S.2 25 a2.toNatClampNeg) = a1 then (1 : Int32) else (0 : Int32))) = 0 then S.2 28 a2.toNatClampNeg else S.2 26 a2.toNatClampNeg)) 0) = 0) => ?_)
        · have h := h.1 c12
          refine qm_iconst E_X8_canBind 0 (by decide) dX8_canBind_96 ?_
          exact qm_zret E_X8_canBind rfl (qm_nb (Or.inl rfl)) dX8_canBind_97 ⟨_, rfl, (Or.inl rfl), h⟩
        · have h := h.2 c12
          refine qm_aload_n E_X8_canBind (by rfl) dX8_canBind_80 ?_
          refine qm_aload_n E_X8_canBind (by rfl) dX8_canBind_81 ?_
          refine qm_get E_X8_canBind rfl 23 (by decide) q1680 (v := .ref (M.2.2.2 23)) rfl dX8_canBind_82 ?_
          refine qm_iload E_X8_canBind (by rfl) dX8_canBind_85 ?_
          obtain ⟨o13, h⟩ := h
          refine qm_iald E_X8_canBind 23 (by decide) rfl o13 dX8_canBind_87 ?_
          refine qm_iload E_X8_canBind (by rfl) dX8_canBind_88 ?_
          obtain ⟨o14, h⟩ := h
          refine qm_callV (As := [.int (S.2 23 ((if ((if (S.2 25 a2.toNatClampNeg) = a1 then (1 : Int32) else (0 : Int32))) = 0 then S.2 25 a2.toNatClampNeg else S.2 27 a2.toNatClampNeg)).toNatClampNeg), .int (f_X8_storeOf (S.2 23 a1.toNatClampNeg))]) (rest := []) E_X8_canBind rfl M_X8_isForbidden rfl q2057 q2059 qs44 rfl rfl rfl (Nat.le_of_ble_eq_true rfl) dX8_canBind_90 (C_X8_isForbidden (d := d + 4) (S.2 23 ((if ((if (S.2 25 a2.toNatClampNeg) = a1 then (1 : Int32) else (0 : Int32))) = 0 then S.2 25 a2.toNatClampNeg else S.2 27 a2.toNatClampNeg)).toNatClampNeg) (f_X8_storeOf (S.2 23 a1.toNatClampNeg)) S _ o14 ?_)
          refine qm_if_eq E_X8_canBind 98 dX8_canBind_93 (by decide) (fun (c15 : (f_X8_isForbidden (S.2 23 ((if ((if (S.2 25 a2.toNatClampNeg) = a1 then (1 : Int32) else (0 : Int32))) = 0 then S.2 25 a2.toNatClampNeg else S.2 27 a2.toNatClampNeg)).toNatClampNeg) (f_X8_storeOf (S.2 23 a1.toNatClampNeg)) S) = 0) => ?_) (fun (c15 : ¬ (f_X8_isForbidden (S.2 23 ((if ((if (S.2 25 a2.toNatClampNeg) = a1 then (1 : Int32) else (0 : Int32))) = 0 then S.2 25 a2.toNatClampNeg else S.2 27 a2.toNatClampNeg)).toNatClampNeg) (f_X8_storeOf (S.2 23 a1.toNatClampNeg)) S) = 0) => ?_)
          · have h := h.1 c15
            refine qm_aload_n E_X8_canBind (by rfl) dX8_canBind_98 ?_
            refine qm_iload E_X8_canBind (by rfl) dX8_canBind_99 ?_
            refine qm_iload_n E_X8_canBind (by rfl) dX8_canBind_101 ?_
            obtain ⟨h9, h⟩ := h
            have Jv19 : ∀ v19 : Int32, v19 = (if ((if (S.2 25 a2.toNatClampNeg) = a1 then (1 : Int32) else (0 : Int32))) = 0 then S.2 26 a2.toNatClampNeg else S.2 28 a2.toNatClampNeg) → qm_wp M (d + 5) I_X8_canBind 120 [some (.ref M.2.2.1), some (.int a1), some (.int a2), some (.int ((if (S.2 25 a2.toNatClampNeg) = a1 then (1 : Int32) else (0 : Int32)))), some (.int ((if ((if (S.2 25 a2.toNatClampNeg) = a1 then (1 : Int32) else (0 : Int32))) = 0 then S.2 28 a2.toNatClampNeg else S.2 26 a2.toNatClampNeg))), some (.int ((if ((if (S.2 25 a2.toNatClampNeg) = a1 then (1 : Int32) else (0 : Int32))) = 0 then S.2 25 a2.toNatClampNeg else S.2 27 a2.toNatClampNeg))), some (.int (f_X8_storeOf (S.2 23 a1.toNatClampNeg)))] [.int v19, .int ((if ((if (S.2 25 a2.toNatClampNeg) = a1 then (1 : Int32) else (0 : Int32))) = 0 then S.2 25 a2.toNatClampNeg else S.2 27 a2.toNatClampNeg)), .ref M.2.2.1] S (fun v S' => ∃ r, v = some (.int r) ∧ (r = 0 ∨ r = 1) ∧ K r S') := by
              rintro _ rfl
              refine qm_callV (As := [.int ((if ((if (S.2 25 a2.toNatClampNeg) = a1 then (1 : Int32) else (0 : Int32))) = 0 then S.2 25 a2.toNatClampNeg else S.2 27 a2.toNatClampNeg)), .int ((if ((if (S.2 25 a2.toNatClampNeg) = a1 then (1 : Int32) else (0 : Int32))) = 0 then S.2 26 a2.toNatClampNeg else S.2 28 a2.toNatClampNeg))]) (rest := []) E_X8_canBind rfl M_X8_laysKeys rfl q2159 q2161 qs59 rfl rfl rfl (Nat.le_of_ble_eq_true rfl) dX8_canBind_120 (qm_C.mono ?_ (C_X8_laysKeys (d := d) ((if ((if (S.2 25 a2.toNatClampNeg) = a1 then (1 : Int32) else (0 : Int32))) = 0 then S.2 25 a2.toNatClampNeg else S.2 27 a2.toNatClampNeg)) ((if ((if (S.2 25 a2.toNatClampNeg) = a1 then (1 : Int32) else (0 : Int32))) = 0 then S.2 26 a2.toNatClampNeg else S.2 28 a2.toNatClampNeg)) S _ h))
              rintro _ S20 ⟨rfl, h⟩
              refine qm_aload_n E_X8_canBind (by rfl) dX8_canBind_123 ?_
              refine qm_get E_X8_canBind rfl 63 (by decide) q1720 (v := .int (S20.1 63)) rfl dX8_canBind_124 ?_
              refine qm_iconst E_X8_canBind 3 (by decide) dX8_canBind_127 ?_
              refine qm_iadd E_X8_canBind dX8_canBind_128 ?_
              refine qm_iconst E_X8_canBind 4 (by decide) dX8_canBind_129 ?_
              refine qm_idiv E_X8_canBind (by decide) dX8_canBind_130 ?_
              refine qm_aload_n E_X8_canBind (by rfl) dX8_canBind_131 ?_
              refine qm_get E_X8_canBind rfl 18 (by decide) q1675 (v := .ref (M.2.2.2 18)) rfl dX8_canBind_132 ?_
              refine qm_iload E_X8_canBind (by rfl) dX8_canBind_135 ?_
              obtain ⟨o21, h⟩ := h
              refine qm_iald E_X8_canBind 18 (by decide) rfl o21 dX8_canBind_137 ?_
              refine qm_imul E_X8_canBind dX8_canBind_138 ?_
              refine qm_aload_n E_X8_canBind (by rfl) dX8_canBind_139 ?_
              refine qm_get E_X8_canBind rfl 63 (by decide) q1720 (v := .int (S20.1 63)) rfl dX8_canBind_140 ?_
              refine qm_aload_n E_X8_canBind (by rfl) dX8_canBind_143 ?_
              refine qm_get E_X8_canBind rfl 19 (by decide) q1676 (v := .ref (M.2.2.2 19)) rfl dX8_canBind_144 ?_
              refine qm_iload E_X8_canBind (by rfl) dX8_canBind_147 ?_
              obtain ⟨o22, h⟩ := h
              refine qm_iald E_X8_canBind 19 (by decide) rfl o22 dX8_canBind_149 ?_
              refine qm_imul E_X8_canBind dX8_canBind_150 ?_
              refine qm_iadd E_X8_canBind dX8_canBind_151 ?_
              refine qm_aload_n E_X8_canBind (by rfl) dX8_canBind_152 ?_
              refine qm_get E_X8_canBind rfl 18 (by decide) q1675 (v := .ref (M.2.2.2 18)) rfl dX8_canBind_153 ?_
              refine qm_iload E_X8_canBind (by rfl) dX8_canBind_156 ?_
              refine qm_iald E_X8_canBind 18 (by decide) rfl o21 dX8_canBind_158 ?_
              refine qm_aload_n E_X8_canBind (by rfl) dX8_canBind_159 ?_
              refine qm_iload_n E_X8_canBind (by rfl) dX8_canBind_160 ?_
              refine qm_callV (As := [.int a1]) (rest := [.int (S20.2 18 (f_X8_storeOf (S.2 23 a1.toNatClampNeg)).toNatClampNeg), .int (((((S20.1 63) + 3) / 4) * (S20.2 18 (f_X8_storeOf (S.2 23 a1.toNatClampNeg)).toNatClampNeg)) + ((S20.1 63) * (S20.2 19 (f_X8_storeOf (S.2 23 a1.toNatClampNeg)).toNatClampNeg)))]) E_X8_canBind rfl M_X8_guess rfl q2121 q2123 qs51 rfl rfl rfl (Nat.le_of_ble_eq_true rfl) dX8_canBind_161 (qm_C.mono ?_ (C_X8_guess (d := d + 1) a1 S20 _ h))
              rintro _ _ ⟨r23, rfl, rfl, h⟩
              refine qm_aload_n E_X8_canBind (by rfl) dX8_canBind_164 ?_
              refine qm_get E_X8_canBind rfl 19 (by decide) q1676 (v := .ref (M.2.2.2 19)) rfl dX8_canBind_165 ?_
              refine qm_iload E_X8_canBind (by rfl) dX8_canBind_168 ?_
              refine qm_iald E_X8_canBind 19 (by decide) rfl o22 dX8_canBind_170 ?_
              refine qm_imul E_X8_canBind dX8_canBind_171 ?_
              refine qm_iadd E_X8_canBind dX8_canBind_172 ?_
              refine qm_icmp_ge E_X8_canBind 180 dX8_canBind_173 (by decide) (fun (c25 : ((S20.2 18 (f_X8_storeOf (S.2 23 a1.toNatClampNeg)).toNatClampNeg) + (r23 * (S20.2 19 (f_X8_storeOf (S.2 23 a1.toNatClampNeg)).toNatClampNeg))) ≤ (((((S20.1 63) + 3) / 4) * (S20.2 18 (f_X8_storeOf (S.2 23 a1.toNatClampNeg)).toNatClampNeg)) + ((S20.1 63) * (S20.2 19 (f_X8_storeOf (S.2 23 a1.toNatClampNeg)).toNatClampNeg)))) => ?_) (fun (c25 : ¬ ((S20.2 18 (f_X8_storeOf (S.2 23 a1.toNatClampNeg)).toNatClampNeg) + (r23 * (S20.2 19 (f_X8_storeOf (S.2 23 a1.toNatClampNeg)).toNatClampNeg))) ≤ (((((S20.1 63) + 3) / 4) * (S20.2 18 (f_X8_storeOf (S.2 23 a1.toNatClampNeg)).toNatClampNeg)) + ((S20.1 63) * (S20.2 19 (f_X8_storeOf (S.2 23 a1.toNatClampNeg)).toNatClampNeg)))) => ?_)
              · have h := h.1 c25
                refine qm_iconst E_X8_canBind 0 (by decide) dX8_canBind_180 ?_
                exact qm_zret E_X8_canBind rfl (qm_nb (Or.inl rfl)) dX8_canBind_181 ⟨_, rfl, (Or.inl rfl), h⟩
              · have h := h.2 c25
                refine qm_iconst E_X8_canBind 1 (by decide) dX8_canBind_176 ?_
                refine qm_goto E_X8_canBind 181 dX8_canBind_177 (by decide) ?_
                exact qm_zret E_X8_canBind rfl (qm_nb (Or.inr rfl)) dX8_canBind_181 ⟨_, rfl, (Or.inr rfl), h⟩
            have h := h9
            refine qm_if_eq E_X8_canBind 114 dX8_canBind_102 (by decide) (fun (c16 : ((if (S.2 25 a2.toNatClampNeg) = a1 then (1 : Int32) else (0 : Int32))) = 0) => ?_) (fun (c16 : ¬ ((if (S.2 25 a2.toNatClampNeg) = a1 then (1 : Int32) else (0 : Int32))) = 0) => ?_)
            · have h := h.1 c16
              refine qm_aload_n E_X8_canBind (by rfl) dX8_canBind_114 ?_
              refine qm_get E_X8_canBind rfl 26 (by decide) q1683 (v := .ref (M.2.2.2 26)) rfl dX8_canBind_115 ?_
              refine qm_iload_n E_X8_canBind (by rfl) dX8_canBind_118 ?_
              have o17 := h
              refine qm_iald E_X8_canBind 26 (by decide) rfl o17 dX8_canBind_119 ?_
              exact Jv19 (S.2 26 a2.toNatClampNeg) (by rw [if_pos c16])
            · have h := h.2 c16
              refine qm_aload_n E_X8_canBind (by rfl) dX8_canBind_105 ?_
              refine qm_get E_X8_canBind rfl 28 (by decide) q1685 (v := .ref (M.2.2.2 28)) rfl dX8_canBind_106 ?_
              refine qm_iload_n E_X8_canBind (by rfl) dX8_canBind_109 ?_
              have o18 := h
              refine qm_iald E_X8_canBind 28 (by decide) rfl o18 dX8_canBind_110 ?_
              refine qm_goto E_X8_canBind 120 dX8_canBind_111 (by decide) ?_
              exact Jv19 (S.2 28 a2.toNatClampNeg) (by rw [if_neg c16])
          · have h := h.2 c15
            refine qm_iconst E_X8_canBind 0 (by decide) dX8_canBind_96 ?_
            exact qm_zret E_X8_canBind rfl (qm_nb (Or.inl rfl)) dX8_canBind_97 ⟨_, rfl, (Or.inl rfl), h⟩
      have h := h9
      refine qm_if_eq E_X8_canBind 50 dX8_canBind_38 (by decide) (fun (c8 : ((if (S.2 25 a2.toNatClampNeg) = a1 then (1 : Int32) else (0 : Int32))) = 0) => ?_) (fun (c8 : ¬ ((if (S.2 25 a2.toNatClampNeg) = a1 then (1 : Int32) else (0 : Int32))) = 0) => ?_)
      · have h := h.1 c8
        refine qm_aload_n E_X8_canBind (by rfl) dX8_canBind_50 ?_
        refine qm_get E_X8_canBind rfl 25 (by decide) q1682 (v := .ref (M.2.2.2 25)) rfl dX8_canBind_51 ?_
        refine qm_iload_n E_X8_canBind (by rfl) dX8_canBind_54 ?_
        refine qm_iald E_X8_canBind 25 (by decide) rfl o1 dX8_canBind_55 ?_
        exact Jv10 (S.2 25 a2.toNatClampNeg) (by rw [if_pos c8])
      · have h := h.2 c8
        refine qm_aload_n E_X8_canBind (by rfl) dX8_canBind_41 ?_
        refine qm_get E_X8_canBind rfl 27 (by decide) q1684 (v := .ref (M.2.2.2 27)) rfl dX8_canBind_42 ?_
        refine qm_iload_n E_X8_canBind (by rfl) dX8_canBind_45 ?_
        have o9 := h
        refine qm_iald E_X8_canBind 27 (by decide) rfl o9 dX8_canBind_46 ?_
        refine qm_goto E_X8_canBind 56 dX8_canBind_47 (by decide) ?_
        exact Jv10 (S.2 27 a2.toNatClampNeg) (by rw [if_neg c8])
    have h := h9
    refine qm_if_eq E_X8_canBind 29 dX8_canBind_17 (by decide) (fun (c4 : ((if (S.2 25 a2.toNatClampNeg) = a1 then (1 : Int32) else (0 : Int32))) = 0) => ?_) (fun (c4 : ¬ ((if (S.2 25 a2.toNatClampNeg) = a1 then (1 : Int32) else (0 : Int32))) = 0) => ?_)
    · have h := h.1 c4
      refine qm_aload_n E_X8_canBind (by rfl) dX8_canBind_29 ?_
      refine qm_get E_X8_canBind rfl 28 (by decide) q1685 (v := .ref (M.2.2.2 28)) rfl dX8_canBind_30 ?_
      refine qm_iload_n E_X8_canBind (by rfl) dX8_canBind_33 ?_
      have o5 := h
      refine qm_iald E_X8_canBind 28 (by decide) rfl o5 dX8_canBind_34 ?_
      exact Jv7 (S.2 28 a2.toNatClampNeg) (by rw [if_pos c4])
    · have h := h.2 c4
      refine qm_aload_n E_X8_canBind (by rfl) dX8_canBind_20 ?_
      refine qm_get E_X8_canBind rfl 26 (by decide) q1683 (v := .ref (M.2.2.2 26)) rfl dX8_canBind_21 ?_
      refine qm_iload_n E_X8_canBind (by rfl) dX8_canBind_24 ?_
      have o6 := h
      refine qm_iald E_X8_canBind 26 (by decide) rfl o6 dX8_canBind_25 ?_
      refine qm_goto E_X8_canBind 35 dX8_canBind_26 (by decide) ?_
      exact Jv7 (S.2 26 a2.toNatClampNeg) (by rw [if_neg c4])
  refine qm_icmp_ne E_X8_canBind 14 dX8_canBind_7 (by decide) (fun (c2 : ¬ (S.2 25 a2.toNatClampNeg) = a1) => ?_) (fun (c2 : (S.2 25 a2.toNatClampNeg) = a1) => ?_)
  · refine qm_iconst E_X8_canBind 0 (by decide) dX8_canBind_14 ?_
    exact Jv3 ((0 : Int32)) (by rw [if_neg c2])
  · refine qm_iconst E_X8_canBind 1 (by decide) dX8_canBind_10 ?_
    refine qm_goto E_X8_canBind 15 dX8_canBind_11 (by decide) ?_
    exact Jv3 ((1 : Int32)) (by rw [if_pos c2])
def I_X8_pays : qh_I := (yX8_pays, cX8_pays, 2, (Option.none : Option Jvm.ClassFile.FieldType), [])
theorem E_X8_pays : I_X8_pays.2.1 = cX8_pays := rfl
theorem M_X8_pays : qh_M I_X8_pays 1 := ⟨by decide, by decide, by decide +kernel, q95, q2189, by decide⟩
def T_X8_pays (a1 : Int32) (S : qm_S) (K : qm_S → Prop) : Prop := K ((upd (upd S.1 80 ((S.1 80) + a1)) 55 ((S.1 55) + a1), S.2))
set_option maxHeartbeats 4000000 in
theorem C_X8_pays {M : qm_G} {d : Nat} (a1 : Int32) (S : qm_S) (K : qm_S → Prop) (h : T_X8_pays a1 S K) : qm_C M (d + 0) I_X8_pays [.ref M.2.2.1, .int a1] S (fun v S' => v = none ∧ K S') := by
  refine qm_C.of (by decide) rfl (ls := [some (.ref M.2.2.1), some (.int a1)]) rfl (Nat.le_of_ble_eq_true rfl) (qm_ct rfl) ?_
  unfold T_X8_pays at h
  refine qm_aload_n E_X8_pays (by rfl) dX8_pays_0 ?_
  refine qm_dup E_X8_pays rfl dX8_pays_1 ?_
  refine qm_get E_X8_pays rfl 80 (by decide) q1737 (v := .int (S.1 80)) rfl dX8_pays_2 ?_
  refine qm_iload_n E_X8_pays (by rfl) dX8_pays_5 ?_
  refine qm_iadd E_X8_pays dX8_pays_6 ?_
  refine qm_put E_X8_pays rfl 80 (by decide) q1737 rfl rfl rfl (qm_set80) dX8_pays_7 ?_
  refine qm_aload_n E_X8_pays (by rfl) dX8_pays_10 ?_
  refine qm_dup E_X8_pays rfl dX8_pays_11 ?_
  refine qm_get E_X8_pays rfl 55 (by decide) q1712 (v := .int (S.1 55)) rfl dX8_pays_12 ?_
  refine qm_iload_n E_X8_pays (by rfl) dX8_pays_15 ?_
  refine qm_iadd E_X8_pays dX8_pays_16 ?_
  refine qm_put E_X8_pays rfl 55 (by decide) q1712 rfl rfl rfl (qm_set55) dX8_pays_17 ?_
  exact qm_vret E_X8_pays rfl dX8_pays_20 ⟨rfl, h⟩
def I_X8_tries : qh_I := (yX8_tries, cX8_tries, 3, (Option.some Jvm.ClassFile.FieldType.int), [])
theorem E_X8_tries : I_X8_tries.2.1 = cX8_tries := rfl
theorem M_X8_tries : qh_M I_X8_tries 2 := ⟨by decide, by decide, by decide +kernel, q95, q2185, by decide⟩
def T_X8_tries (a1 a2 : Int32) (S : qm_S) (K : Int32 → qm_S → Prop) : Prop := vp_in a1 (qm_len 16) ∧ ∀ J7 : qm_S → Prop, (∀ (S8 : qm_S), ((a2 = 0 → ((¬ (S8.2 16 a1.toNatClampNeg) = ((S8.1 8) / 10) → True) ∧ ((S8.2 16 a1.toNatClampNeg) = ((S8.1 8) / 10) → vp_in a1 (qm_len 17))) ∧ vp_in a1 (qm_len 17) ∧ vp_in a1 (qm_len 9) ∧ T_X8_goes (S8.2 9 a1.toNatClampNeg) ((S8.1, qm_uA (qm_uA S8.2 17 (upd (S8.2 17) a1.toNatClampNeg ((if (S8.2 16 a1.toNatClampNeg) = ((S8.1 8) / 10) then (S8.2 17 a1.toNatClampNeg) + 1 else (1 : Int32))))) 16 (upd (S8.2 16) a1.toNatClampNeg ((S8.1 8) / 10)))) (fun S15 => ∀ J19 : qm_S → Prop, (∀ (S20 : qm_S), (vp_in a1 (qm_len 14) ∧ ((S20.2 14 a1.toNatClampNeg) ≤ 0 → K 2 S20) ∧ (¬ (S20.2 14 a1.toNatClampNeg) ≤ 0 → K 1 ((S20.1, qm_uA S20.2 14 (upd (S20.2 14) a1.toNatClampNeg ((S20.2 14 a1.toNatClampNeg) - 1)))))) → J19 S20) → (a2 = 0 → J19 S15) ∧ (¬ a2 = 0 → vp_in a1 (qm_len 18) ∧ T_X8_pays (S15.2 18 a1.toNatClampNeg) ((upd S15.1 81 ((S15.1 81) + 1), S15.2)) (fun S18 => J19 S18)))) ∧ (¬ a2 = 0 → (((S8.1 8) - (S8.1 52)) ≤ (S8.1 54) → ((¬ (S8.2 16 a1.toNatClampNeg) = ((S8.1 8) / 10) → True) ∧ ((S8.2 16 a1.toNatClampNeg) = ((S8.1 8) / 10) → vp_in a1 (qm_len 17))) ∧ vp_in a1 (qm_len 17) ∧ vp_in a1 (qm_len 9) ∧ T_X8_goes (S8.2 9 a1.toNatClampNeg) ((S8.1, qm_uA (qm_uA S8.2 17 (upd (S8.2 17) a1.toNatClampNeg ((if (S8.2 16 a1.toNatClampNeg) = ((S8.1 8) / 10) then (S8.2 17 a1.toNatClampNeg) + 1 else (1 : Int32))))) 16 (upd (S8.2 16) a1.toNatClampNeg ((S8.1 8) / 10)))) (fun S29 => ∀ J33 : qm_S → Prop, (∀ (S34 : qm_S), (vp_in a1 (qm_len 14) ∧ ((S34.2 14 a1.toNatClampNeg) ≤ 0 → K 2 S34) ∧ (¬ (S34.2 14 a1.toNatClampNeg) ≤ 0 → K 1 ((S34.1, qm_uA S34.2 14 (upd (S34.2 14) a1.toNatClampNeg ((S34.2 14 a1.toNatClampNeg) - 1)))))) → J33 S34) → (a2 = 0 → J33 S29) ∧ (¬ a2 = 0 → vp_in a1 (qm_len 18) ∧ T_X8_pays (S29.2 18 a1.toNatClampNeg) ((upd S29.1 81 ((S29.1 81) + 1), S29.2)) (fun S32 => J33 S32)))) ∧ (¬ ((S8.1 8) - (S8.1 52)) ≤ (S8.1 54) → K 0 S8))) → J7 S8) → (¬ (S.2 16 a1.toNatClampNeg) = ((S.1 8) / 10) → J7 S) ∧ ((S.2 16 a1.toNatClampNeg) = ((S.1 8) / 10) → vp_in a1 (qm_len 17) ∧ vp_in a1 (qm_len 11) ∧ ((S.2 17 a1.toNatClampNeg) < (S.2 11 a1.toNatClampNeg) → J7 S) ∧ (¬ (S.2 17 a1.toNatClampNeg) < (S.2 11 a1.toNatClampNeg) → T_X8_goes (10 - ((S.1 8) - (S.1 8) / 10 * 10)) S (fun S6 => J7 S6)))
set_option maxHeartbeats 4000000 in
theorem C_X8_tries {M : qm_G} {d : Nat} (a1 a2 : Int32) (S : qm_S) (K : Int32 → qm_S → Prop) (h : T_X8_tries a1 a2 S K) : qm_C M (d + 3) I_X8_tries [.ref M.2.2.1, .int a1, .int a2] S (fun v S' => ∃ r, v = some (.int r) ∧ K r S') := by
  refine qm_C.of (by decide) rfl (ls := [some (.ref M.2.2.1), some (.int a1), some (.int a2)]) rfl (Nat.le_of_ble_eq_true rfl) (qm_ct rfl) ?_
  unfold T_X8_tries at h
  refine qm_aload_n E_X8_tries (by rfl) dX8_tries_0 ?_
  refine qm_get E_X8_tries rfl 16 (by decide) q1673 (v := .ref (M.2.2.2 16)) rfl dX8_tries_1 ?_
  refine qm_iload_n E_X8_tries (by rfl) dX8_tries_4 ?_
  obtain ⟨o1, h⟩ := h
  refine qm_iald E_X8_tries 16 (by decide) rfl o1 dX8_tries_5 ?_
  refine qm_aload_n E_X8_tries (by rfl) dX8_tries_6 ?_
  refine qm_get E_X8_tries rfl 8 (by decide) q1665 (v := .int (S.1 8)) rfl dX8_tries_7 ?_
  refine qm_bipush E_X8_tries 10 (by decide) dX8_tries_10 ?_
  refine qm_idiv E_X8_tries (by decide) dX8_tries_12 ?_
  have h := h (fun S8 => qm_wp M (d + 3) I_X8_tries 45 [some (.ref M.2.2.1), some (.int a1), some (.int a2)] [] S8 (fun v S' => ∃ r, v = some (.int r) ∧ K r S')) (by
    intro S8 h
    refine qm_iload_n E_X8_tries (by rfl) dX8_tries_45 ?_
    refine qm_if_eq E_X8_tries 67 dX8_tries_46 (by decide) (fun (c9 : a2 = 0) => ?_) (fun (c9 : ¬ a2 = 0) => ?_)
    · have h := h.1 c9
      refine qm_aload_n E_X8_tries (by rfl) dX8_tries_67 ?_
      refine qm_get E_X8_tries rfl 17 (by decide) q1674 (v := .ref (M.2.2.2 17)) rfl dX8_tries_68 ?_
      refine qm_iload_n E_X8_tries (by rfl) dX8_tries_71 ?_
      refine qm_aload_n E_X8_tries (by rfl) dX8_tries_72 ?_
      refine qm_get E_X8_tries rfl 16 (by decide) q1673 (v := .ref (M.2.2.2 16)) rfl dX8_tries_73 ?_
      refine qm_iload_n E_X8_tries (by rfl) dX8_tries_76 ?_
      refine qm_iald E_X8_tries 16 (by decide) rfl o1 dX8_tries_77 ?_
      refine qm_aload_n E_X8_tries (by rfl) dX8_tries_78 ?_
      refine qm_get E_X8_tries rfl 8 (by decide) q1665 (v := .int (S8.1 8)) rfl dX8_tries_79 ?_
      refine qm_bipush E_X8_tries 10 (by decide) dX8_tries_82 ?_
      refine qm_idiv E_X8_tries (by decide) dX8_tries_84 ?_
      obtain ⟨h9, h⟩ := h
      have Jv12 : ∀ v12 : Int32, v12 = (if (S8.2 16 a1.toNatClampNeg) = ((S8.1 8) / 10) then (S8.2 17 a1.toNatClampNeg) + 1 else (1 : Int32)) → qm_wp M (d + 3) I_X8_tries 100 [some (.ref M.2.2.1), some (.int a1), some (.int a2)] [.int v12, .int a1, .ref (M.2.2.2 17)] S8 (fun v S' => ∃ r, v = some (.int r) ∧ K r S') := by
        rintro _ rfl
        obtain ⟨o13, h⟩ := h
        refine qm_iast E_X8_tries 17 (by decide) rfl o13 dX8_tries_100 ?_
        refine qm_aload_n E_X8_tries (by rfl) dX8_tries_101 ?_
        refine qm_get E_X8_tries rfl 16 (by decide) q1673 (v := .ref (M.2.2.2 16)) rfl dX8_tries_102 ?_
        refine qm_iload_n E_X8_tries (by rfl) dX8_tries_105 ?_
        refine qm_aload_n E_X8_tries (by rfl) dX8_tries_106 ?_
        refine qm_get E_X8_tries rfl 8 (by decide) q1665 (v := .int (S8.1 8)) rfl dX8_tries_107 ?_
        refine qm_bipush E_X8_tries 10 (by decide) dX8_tries_110 ?_
        refine qm_idiv E_X8_tries (by decide) dX8_tries_112 ?_
        refine qm_iast E_X8_tries 16 (by decide) rfl o1 dX8_tries_113 ?_
        refine qm_aload_n E_X8_tries (by rfl) dX8_tries_114 ?_
        refine qm_aload_n E_X8_tries (by rfl) dX8_tries_115 ?_
        refine qm_get E_X8_tries rfl 9 (by decide) q1666 (v := .ref (M.2.2.2 9)) rfl dX8_tries_116 ?_
        refine qm_iload_n E_X8_tries (by rfl) dX8_tries_119 ?_
        obtain ⟨o14, h⟩ := h
        refine qm_iald E_X8_tries 9 (by decide) rfl o14 dX8_tries_120 ?_
        refine qm_callV (As := [.int (S8.2 9 a1.toNatClampNeg)]) (rest := []) E_X8_tries rfl M_X8_goes rfl q2065 q2067 qs45 rfl rfl rfl (Nat.le_of_ble_eq_true rfl) dX8_tries_121 (qm_C.mono ?_ (C_X8_goes (d := d) (S8.2 9 a1.toNatClampNeg) ((S8.1, qm_uA (qm_uA S8.2 17 (upd (S8.2 17) a1.toNatClampNeg ((if (S8.2 16 a1.toNatClampNeg) = ((S8.1 8) / 10) then (S8.2 17 a1.toNatClampNeg) + 1 else (1 : Int32))))) 16 (upd (S8.2 16) a1.toNatClampNeg ((S8.1 8) / 10)))) _ h))
        rintro _ S15 ⟨rfl, h⟩
        refine qm_iload_n E_X8_tries (by rfl) dX8_tries_124 ?_
        have h := h (fun S20 => qm_wp M (d + 3) I_X8_tries 148 [some (.ref M.2.2.1), some (.int a1), some (.int a2)] [] S20 (fun v S' => ∃ r, v = some (.int r) ∧ K r S')) (by
          intro S20 h
          refine qm_aload_n E_X8_tries (by rfl) dX8_tries_148 ?_
          refine qm_get E_X8_tries rfl 14 (by decide) q1671 (v := .ref (M.2.2.2 14)) rfl dX8_tries_149 ?_
          refine qm_iload_n E_X8_tries (by rfl) dX8_tries_152 ?_
          obtain ⟨o21, h⟩ := h
          refine qm_iald E_X8_tries 14 (by decide) rfl o21 dX8_tries_153 ?_
          refine qm_if_le E_X8_tries 169 dX8_tries_154 (by decide) (fun (c22 : (S20.2 14 a1.toNatClampNeg) ≤ 0) => ?_) (fun (c22 : ¬ (S20.2 14 a1.toNatClampNeg) ≤ 0) => ?_)
          · have h := h.1 c22
            refine qm_iconst E_X8_tries 2 (by decide) dX8_tries_169 ?_
            exact qm_iret E_X8_tries rfl dX8_tries_170 ⟨_, rfl, h⟩
          · have h := h.2 c22
            refine qm_aload_n E_X8_tries (by rfl) dX8_tries_157 ?_
            refine qm_get E_X8_tries rfl 14 (by decide) q1671 (v := .ref (M.2.2.2 14)) rfl dX8_tries_158 ?_
            refine qm_iload_n E_X8_tries (by rfl) dX8_tries_161 ?_
            refine qm_dup2 E_X8_tries rfl rfl dX8_tries_162 ?_
            refine qm_iald E_X8_tries 14 (by decide) rfl o21 dX8_tries_163 ?_
            refine qm_iconst E_X8_tries 1 (by decide) dX8_tries_164 ?_
            refine qm_isub E_X8_tries dX8_tries_165 ?_
            refine qm_iast E_X8_tries 14 (by decide) rfl o21 dX8_tries_166 ?_
            refine qm_iconst E_X8_tries 1 (by decide) dX8_tries_167 ?_
            exact qm_iret E_X8_tries rfl dX8_tries_168 ⟨_, rfl, h⟩)
        refine qm_if_eq E_X8_tries 148 dX8_tries_125 (by decide) (fun (c16 : a2 = 0) => ?_) (fun (c16 : ¬ a2 = 0) => ?_)
        · have h := h.1 c16
          exact h
        · have h := h.2 c16
          refine qm_aload_n E_X8_tries (by rfl) dX8_tries_128 ?_
          refine qm_dup E_X8_tries rfl dX8_tries_129 ?_
          refine qm_get E_X8_tries rfl 81 (by decide) q1738 (v := .int (S15.1 81)) rfl dX8_tries_130 ?_
          refine qm_iconst E_X8_tries 1 (by decide) dX8_tries_133 ?_
          refine qm_iadd E_X8_tries dX8_tries_134 ?_
          refine qm_put E_X8_tries rfl 81 (by decide) q1738 rfl rfl rfl (qm_set81) dX8_tries_135 ?_
          refine qm_aload_n E_X8_tries (by rfl) dX8_tries_138 ?_
          refine qm_aload_n E_X8_tries (by rfl) dX8_tries_139 ?_
          refine qm_get E_X8_tries rfl 18 (by decide) q1675 (v := .ref (M.2.2.2 18)) rfl dX8_tries_140 ?_
          refine qm_iload_n E_X8_tries (by rfl) dX8_tries_143 ?_
          obtain ⟨o17, h⟩ := h
          refine qm_iald E_X8_tries 18 (by decide) rfl o17 dX8_tries_144 ?_
          refine qm_callV (As := [.int (S15.2 18 a1.toNatClampNeg)]) (rest := []) E_X8_tries rfl M_X8_pays rfl q2186 q2188 qs65 rfl rfl rfl (Nat.le_of_ble_eq_true rfl) dX8_tries_145 (qm_C.mono ?_ (C_X8_pays (d := d + 2) (S15.2 18 a1.toNatClampNeg) ((upd S15.1 81 ((S15.1 81) + 1), S15.2)) _ h))
          rintro _ S18 ⟨rfl, h⟩
          exact h
      have h := h9
      refine qm_icmp_ne E_X8_tries 99 dX8_tries_85 (by decide) (fun (c10 : ¬ (S8.2 16 a1.toNatClampNeg) = ((S8.1 8) / 10)) => ?_) (fun (c10 : (S8.2 16 a1.toNatClampNeg) = ((S8.1 8) / 10)) => ?_)
      · have h := h.1 c10
        refine qm_iconst E_X8_tries 1 (by decide) dX8_tries_99 ?_
        exact Jv12 ((1 : Int32)) (by rw [if_neg c10])
      · have h := h.2 c10
        refine qm_aload_n E_X8_tries (by rfl) dX8_tries_88 ?_
        refine qm_get E_X8_tries rfl 17 (by decide) q1674 (v := .ref (M.2.2.2 17)) rfl dX8_tries_89 ?_
        refine qm_iload_n E_X8_tries (by rfl) dX8_tries_92 ?_
        have o11 := h
        refine qm_iald E_X8_tries 17 (by decide) rfl o11 dX8_tries_93 ?_
        refine qm_iconst E_X8_tries 1 (by decide) dX8_tries_94 ?_
        refine qm_iadd E_X8_tries dX8_tries_95 ?_
        refine qm_goto E_X8_tries 100 dX8_tries_96 (by decide) ?_
        exact Jv12 ((S8.2 17 a1.toNatClampNeg) + 1) (by rw [if_pos c10])
    · have h := h.2 c9
      refine qm_aload_n E_X8_tries (by rfl) dX8_tries_49 ?_
      refine qm_get E_X8_tries rfl 8 (by decide) q1665 (v := .int (S8.1 8)) rfl dX8_tries_50 ?_
      refine qm_aload_n E_X8_tries (by rfl) dX8_tries_53 ?_
      refine qm_get E_X8_tries rfl 52 (by decide) q1709 (v := .int (S8.1 52)) rfl dX8_tries_54 ?_
      refine qm_isub E_X8_tries dX8_tries_57 ?_
      refine qm_aload_n E_X8_tries (by rfl) dX8_tries_58 ?_
      refine qm_get E_X8_tries rfl 54 (by decide) q1711 (v := .int (S8.1 54)) rfl dX8_tries_59 ?_
      refine qm_icmp_le E_X8_tries 67 dX8_tries_62 (by decide) (fun (c23 : ((S8.1 8) - (S8.1 52)) ≤ (S8.1 54)) => ?_) (fun (c23 : ¬ ((S8.1 8) - (S8.1 52)) ≤ (S8.1 54)) => ?_)
      · have h := h.1 c23
        refine qm_aload_n E_X8_tries (by rfl) dX8_tries_67 ?_
        refine qm_get E_X8_tries rfl 17 (by decide) q1674 (v := .ref (M.2.2.2 17)) rfl dX8_tries_68 ?_
        refine qm_iload_n E_X8_tries (by rfl) dX8_tries_71 ?_
        refine qm_aload_n E_X8_tries (by rfl) dX8_tries_72 ?_
        refine qm_get E_X8_tries rfl 16 (by decide) q1673 (v := .ref (M.2.2.2 16)) rfl dX8_tries_73 ?_
        refine qm_iload_n E_X8_tries (by rfl) dX8_tries_76 ?_
        refine qm_iald E_X8_tries 16 (by decide) rfl o1 dX8_tries_77 ?_
        refine qm_aload_n E_X8_tries (by rfl) dX8_tries_78 ?_
        refine qm_get E_X8_tries rfl 8 (by decide) q1665 (v := .int (S8.1 8)) rfl dX8_tries_79 ?_
        refine qm_bipush E_X8_tries 10 (by decide) dX8_tries_82 ?_
        refine qm_idiv E_X8_tries (by decide) dX8_tries_84 ?_
        obtain ⟨h9, h⟩ := h
        have Jv26 : ∀ v26 : Int32, v26 = (if (S8.2 16 a1.toNatClampNeg) = ((S8.1 8) / 10) then (S8.2 17 a1.toNatClampNeg) + 1 else (1 : Int32)) → qm_wp M (d + 3) I_X8_tries 100 [some (.ref M.2.2.1), some (.int a1), some (.int a2)] [.int v26, .int a1, .ref (M.2.2.2 17)] S8 (fun v S' => ∃ r, v = some (.int r) ∧ K r S') := by
          rintro _ rfl
          obtain ⟨o27, h⟩ := h
          refine qm_iast E_X8_tries 17 (by decide) rfl o27 dX8_tries_100 ?_
          refine qm_aload_n E_X8_tries (by rfl) dX8_tries_101 ?_
          refine qm_get E_X8_tries rfl 16 (by decide) q1673 (v := .ref (M.2.2.2 16)) rfl dX8_tries_102 ?_
          refine qm_iload_n E_X8_tries (by rfl) dX8_tries_105 ?_
          refine qm_aload_n E_X8_tries (by rfl) dX8_tries_106 ?_
          refine qm_get E_X8_tries rfl 8 (by decide) q1665 (v := .int (S8.1 8)) rfl dX8_tries_107 ?_
          refine qm_bipush E_X8_tries 10 (by decide) dX8_tries_110 ?_
          refine qm_idiv E_X8_tries (by decide) dX8_tries_112 ?_
          refine qm_iast E_X8_tries 16 (by decide) rfl o1 dX8_tries_113 ?_
          refine qm_aload_n E_X8_tries (by rfl) dX8_tries_114 ?_
          refine qm_aload_n E_X8_tries (by rfl) dX8_tries_115 ?_
          refine qm_get E_X8_tries rfl 9 (by decide) q1666 (v := .ref (M.2.2.2 9)) rfl dX8_tries_116 ?_
          refine qm_iload_n E_X8_tries (by rfl) dX8_tries_119 ?_
          obtain ⟨o28, h⟩ := h
          refine qm_iald E_X8_tries 9 (by decide) rfl o28 dX8_tries_120 ?_
          refine qm_callV (As := [.int (S8.2 9 a1.toNatClampNeg)]) (rest := []) E_X8_tries rfl M_X8_goes rfl q2065 q2067 qs45 rfl rfl rfl (Nat.le_of_ble_eq_true rfl) dX8_tries_121 (qm_C.mono ?_ (C_X8_goes (d := d) (S8.2 9 a1.toNatClampNeg) ((S8.1, qm_uA (qm_uA S8.2 17 (upd (S8.2 17) a1.toNatClampNeg ((if (S8.2 16 a1.toNatClampNeg) = ((S8.1 8) / 10) then (S8.2 17 a1.toNatClampNeg) + 1 else (1 : Int32))))) 16 (upd (S8.2 16) a1.toNatClampNeg ((S8.1 8) / 10)))) _ h))
          rintro _ S29 ⟨rfl, h⟩
          refine qm_iload_n E_X8_tries (by rfl) dX8_tries_124 ?_
          have h := h (fun S34 => qm_wp M (d + 3) I_X8_tries 148 [some (.ref M.2.2.1), some (.int a1), some (.int a2)] [] S34 (fun v S' => ∃ r, v = some (.int r) ∧ K r S')) (by
            intro S34 h
            refine qm_aload_n E_X8_tries (by rfl) dX8_tries_148 ?_
            refine qm_get E_X8_tries rfl 14 (by decide) q1671 (v := .ref (M.2.2.2 14)) rfl dX8_tries_149 ?_
            refine qm_iload_n E_X8_tries (by rfl) dX8_tries_152 ?_
            obtain ⟨o35, h⟩ := h
            refine qm_iald E_X8_tries 14 (by decide) rfl o35 dX8_tries_153 ?_
            refine qm_if_le E_X8_tries 169 dX8_tries_154 (by decide) (fun (c36 : (S34.2 14 a1.toNatClampNeg) ≤ 0) => ?_) (fun (c36 : ¬ (S34.2 14 a1.toNatClampNeg) ≤ 0) => ?_)
            · have h := h.1 c36
              refine qm_iconst E_X8_tries 2 (by decide) dX8_tries_169 ?_
              exact qm_iret E_X8_tries rfl dX8_tries_170 ⟨_, rfl, h⟩
            · have h := h.2 c36
              refine qm_aload_n E_X8_tries (by rfl) dX8_tries_157 ?_
              refine qm_get E_X8_tries rfl 14 (by decide) q1671 (v := .ref (M.2.2.2 14)) rfl dX8_tries_158 ?_
              refine qm_iload_n E_X8_tries (by rfl) dX8_tries_161 ?_
              refine qm_dup2 E_X8_tries rfl rfl dX8_tries_162 ?_
              refine qm_iald E_X8_tries 14 (by decide) rfl o35 dX8_tries_163 ?_
              refine qm_iconst E_X8_tries 1 (by decide) dX8_tries_164 ?_
              refine qm_isub E_X8_tries dX8_tries_165 ?_
              refine qm_iast E_X8_tries 14 (by decide) rfl o35 dX8_tries_166 ?_
              refine qm_iconst E_X8_tries 1 (by decide) dX8_tries_167 ?_
              exact qm_iret E_X8_tries rfl dX8_tries_168 ⟨_, rfl, h⟩)
          refine qm_if_eq E_X8_tries 148 dX8_tries_125 (by decide) (fun (c30 : a2 = 0) => ?_) (fun (c30 : ¬ a2 = 0) => ?_)
          · have h := h.1 c30
            exact h
          · have h := h.2 c30
            refine qm_aload_n E_X8_tries (by rfl) dX8_tries_128 ?_
            refine qm_dup E_X8_tries rfl dX8_tries_129 ?_
            refine qm_get E_X8_tries rfl 81 (by decide) q1738 (v := .int (S29.1 81)) rfl dX8_tries_130 ?_
            refine qm_iconst E_X8_tries 1 (by decide) dX8_tries_133 ?_
            refine qm_iadd E_X8_tries dX8_tries_134 ?_
            refine qm_put E_X8_tries rfl 81 (by decide) q1738 rfl rfl rfl (qm_set81) dX8_tries_135 ?_
            refine qm_aload_n E_X8_tries (by rfl) dX8_tries_138 ?_
            refine qm_aload_n E_X8_tries (by rfl) dX8_tries_139 ?_
            refine qm_get E_X8_tries rfl 18 (by decide) q1675 (v := .ref (M.2.2.2 18)) rfl dX8_tries_140 ?_
            refine qm_iload_n E_X8_tries (by rfl) dX8_tries_143 ?_
            obtain ⟨o31, h⟩ := h
            refine qm_iald E_X8_tries 18 (by decide) rfl o31 dX8_tries_144 ?_
            refine qm_callV (As := [.int (S29.2 18 a1.toNatClampNeg)]) (rest := []) E_X8_tries rfl M_X8_pays rfl q2186 q2188 qs65 rfl rfl rfl (Nat.le_of_ble_eq_true rfl) dX8_tries_145 (qm_C.mono ?_ (C_X8_pays (d := d + 2) (S29.2 18 a1.toNatClampNeg) ((upd S29.1 81 ((S29.1 81) + 1), S29.2)) _ h))
            rintro _ S32 ⟨rfl, h⟩
            exact h
        have h := h9
        refine qm_icmp_ne E_X8_tries 99 dX8_tries_85 (by decide) (fun (c24 : ¬ (S8.2 16 a1.toNatClampNeg) = ((S8.1 8) / 10)) => ?_) (fun (c24 : (S8.2 16 a1.toNatClampNeg) = ((S8.1 8) / 10)) => ?_)
        · have h := h.1 c24
          refine qm_iconst E_X8_tries 1 (by decide) dX8_tries_99 ?_
          exact Jv26 ((1 : Int32)) (by rw [if_neg c24])
        · have h := h.2 c24
          refine qm_aload_n E_X8_tries (by rfl) dX8_tries_88 ?_
          refine qm_get E_X8_tries rfl 17 (by decide) q1674 (v := .ref (M.2.2.2 17)) rfl dX8_tries_89 ?_
          refine qm_iload_n E_X8_tries (by rfl) dX8_tries_92 ?_
          have o25 := h
          refine qm_iald E_X8_tries 17 (by decide) rfl o25 dX8_tries_93 ?_
          refine qm_iconst E_X8_tries 1 (by decide) dX8_tries_94 ?_
          refine qm_iadd E_X8_tries dX8_tries_95 ?_
          refine qm_goto E_X8_tries 100 dX8_tries_96 (by decide) ?_
          exact Jv26 ((S8.2 17 a1.toNatClampNeg) + 1) (by rw [if_pos c24])
      · have h := h.2 c23
        refine qm_iconst E_X8_tries 0 (by decide) dX8_tries_65 ?_
        exact qm_iret E_X8_tries rfl dX8_tries_66 ⟨_, rfl, h⟩)
  refine qm_icmp_ne E_X8_tries 45 dX8_tries_13 (by decide) (fun (c2 : ¬ (S.2 16 a1.toNatClampNeg) = ((S.1 8) / 10)) => ?_) (fun (c2 : (S.2 16 a1.toNatClampNeg) = ((S.1 8) / 10)) => ?_)
  · have h := h.1 c2
    exact h
  · have h := h.2 c2
    refine qm_aload_n E_X8_tries (by rfl) dX8_tries_16 ?_
    refine qm_get E_X8_tries rfl 17 (by decide) q1674 (v := .ref (M.2.2.2 17)) rfl dX8_tries_17 ?_
    refine qm_iload_n E_X8_tries (by rfl) dX8_tries_20 ?_
    obtain ⟨o3, h⟩ := h
    refine qm_iald E_X8_tries 17 (by decide) rfl o3 dX8_tries_21 ?_
    refine qm_aload_n E_X8_tries (by rfl) dX8_tries_22 ?_
    refine qm_get E_X8_tries rfl 11 (by decide) q1668 (v := .ref (M.2.2.2 11)) rfl dX8_tries_23 ?_
    refine qm_iload_n E_X8_tries (by rfl) dX8_tries_26 ?_
    obtain ⟨o4, h⟩ := h
    refine qm_iald E_X8_tries 11 (by decide) rfl o4 dX8_tries_27 ?_
    refine qm_icmp_lt E_X8_tries 45 dX8_tries_28 (by decide) (fun (c5 : (S.2 17 a1.toNatClampNeg) < (S.2 11 a1.toNatClampNeg)) => ?_) (fun (c5 : ¬ (S.2 17 a1.toNatClampNeg) < (S.2 11 a1.toNatClampNeg)) => ?_)
    · have h := h.1 c5
      exact h
    · have h := h.2 c5
      refine qm_aload_n E_X8_tries (by rfl) dX8_tries_31 ?_
      refine qm_bipush E_X8_tries 10 (by decide) dX8_tries_32 ?_
      refine qm_aload_n E_X8_tries (by rfl) dX8_tries_34 ?_
      refine qm_get E_X8_tries rfl 8 (by decide) q1665 (v := .int (S.1 8)) rfl dX8_tries_35 ?_
      refine qm_bipush E_X8_tries 10 (by decide) dX8_tries_38 ?_
      refine qm_irem E_X8_tries (by decide) dX8_tries_40 ?_
      refine qm_isub E_X8_tries dX8_tries_41 ?_
      refine qm_callV (As := [.int (10 - ((S.1 8) - (S.1 8) / 10 * 10))]) (rest := []) E_X8_tries rfl M_X8_goes rfl q2065 q2067 qs45 rfl rfl rfl (Nat.le_of_ble_eq_true rfl) dX8_tries_42 (qm_C.mono ?_ (C_X8_goes (d := d) (10 - ((S.1 8) - (S.1 8) / 10 * 10)) S _ h))
      rintro _ S6 ⟨rfl, h⟩
      exact h
def I_X8_requests : qh_I := (yX8_requests, cX8_requests, 4, (Option.some Jvm.ClassFile.FieldType.boolean), [])
theorem E_X8_requests : I_X8_requests.2.1 = cX8_requests := rfl
theorem M_X8_requests : qh_M I_X8_requests 1 := ⟨by decide, by decide, by decide +kernel, q95, q2181, by decide⟩
def T_X8_requests (a1 : Int32) (S : qm_S) (K : Int32 → qm_S → Prop) : Prop := ∀ X1 : Int32 → Int32 → qm_S → Prop, (∀ (x2 x3 : Int32) (S4 : qm_S), (∀ J10 : Prop, (((¬ x2 = 2 → K 0 S4) ∧ (x2 = 2 → K 1 S4)) → J10) → (3 ≤ x3 → J10) ∧ (¬ 3 ≤ x3 → (¬ x2 = 1 → J10) ∧ (x2 = 1 → T_X8_tries a1 1 S4 (fun r7 S9 => X1 r7 (x3 + 1) S9)))) → X1 x2 x3 S4) → X1 1 0 S
set_option maxHeartbeats 4000000 in
theorem C_X8_requests {M : qm_G} {d : Nat} (a1 : Int32) (S : qm_S) (K : Int32 → qm_S → Prop) (h : T_X8_requests a1 S K) : qm_C M (d + 4) I_X8_requests [.ref M.2.2.1, .int a1] S (fun v S' => ∃ r, v = some (.int r) ∧ (r = 0 ∨ r = 1) ∧ K r S') := by
  refine qm_C.of (by decide) rfl (ls := [some (.ref M.2.2.1), some (.int a1), none, none]) rfl (Nat.le_of_ble_eq_true rfl) (qm_ct rfl) ?_
  unfold T_X8_requests at h
  refine qm_iconst E_X8_requests 1 (by decide) dX8_requests_0 ?_
  refine qm_istore_n E_X8_requests (by decide) dX8_requests_1 ?_
  refine qm_iconst E_X8_requests 0 (by decide) dX8_requests_2 ?_
  refine qm_istore_n E_X8_requests (by decide) dX8_requests_3 ?_
  refine h (fun x2 x3 S4 => qm_wp M (d + 4) I_X8_requests 4 [some (.ref M.2.2.1), some (.int a1), some (.int x2), some (.int x3)] [] S4 (fun v S' => ∃ r, v = some (.int r) ∧ (r = 0 ∨ r = 1) ∧ K r S')) ?_
  intro x2 x3 S4 h
  refine qm_iload_n E_X8_requests (by rfl) dX8_requests_4 ?_
  refine qm_iconst E_X8_requests 3 (by decide) dX8_requests_5 ?_
  have h := h (qm_wp M (d + 4) I_X8_requests 27 [some (.ref M.2.2.1), some (.int a1), some (.int x2), some (.int x3)] [] S4 (fun v S' => ∃ r, v = some (.int r) ∧ (r = 0 ∨ r = 1) ∧ K r S')) (by
    intro h
    refine qm_iload_n E_X8_requests (by rfl) dX8_requests_27 ?_
    refine qm_iconst E_X8_requests 2 (by decide) dX8_requests_28 ?_
    refine qm_icmp_ne E_X8_requests 36 dX8_requests_29 (by decide) (fun (c11 : ¬ x2 = 2) => ?_) (fun (c11 : x2 = 2) => ?_)
    · have h := h.1 c11
      refine qm_iconst E_X8_requests 0 (by decide) dX8_requests_36 ?_
      exact qm_zret E_X8_requests rfl (qm_nb (Or.inl rfl)) dX8_requests_37 ⟨_, rfl, (Or.inl rfl), h⟩
    · have h := h.2 c11
      refine qm_iconst E_X8_requests 1 (by decide) dX8_requests_32 ?_
      refine qm_goto E_X8_requests 37 dX8_requests_33 (by decide) ?_
      exact qm_zret E_X8_requests rfl (qm_nb (Or.inr rfl)) dX8_requests_37 ⟨_, rfl, (Or.inr rfl), h⟩)
  refine qm_icmp_ge E_X8_requests 27 dX8_requests_6 (by decide) (fun (c5 : 3 ≤ x3) => ?_) (fun (c5 : ¬ 3 ≤ x3) => ?_)
  · have h := h.1 c5
    exact h
  · have h := h.2 c5
    refine qm_iload_n E_X8_requests (by rfl) dX8_requests_9 ?_
    refine qm_iconst E_X8_requests 1 (by decide) dX8_requests_10 ?_
    refine qm_icmp_ne E_X8_requests 27 dX8_requests_11 (by decide) (fun (c6 : ¬ x2 = 1) => ?_) (fun (c6 : x2 = 1) => ?_)
    · have h := h.1 c6
      exact h
    · have h := h.2 c6
      refine qm_aload_n E_X8_requests (by rfl) dX8_requests_14 ?_
      refine qm_iload_n E_X8_requests (by rfl) dX8_requests_15 ?_
      refine qm_iconst E_X8_requests 1 (by decide) dX8_requests_16 ?_
      refine qm_callV (As := [.int a1, .int 1]) (rest := []) E_X8_requests rfl M_X8_tries rfl q2182 q2184 qs64 rfl rfl rfl (Nat.le_of_ble_eq_true rfl) dX8_requests_17 (qm_C.mono ?_ (C_X8_tries (d := d) a1 1 S4 _ h))
      rintro _ S9 ⟨r7, rfl, h⟩
      refine qm_istore_n E_X8_requests (by decide) dX8_requests_20 ?_
      refine qm_iinc E_X8_requests 1 rfl (by decide) (by decide) dX8_requests_21 ?_
      refine qm_goto E_X8_requests 4 dX8_requests_24 (by decide) ?_
      exact h
def I_X8_holdSent : qh_I := (yX8_holdSent, cX8_holdSent, 6, (Option.some Jvm.ClassFile.FieldType.boolean), [])
theorem E_X8_holdSent : I_X8_holdSent.2.1 = cX8_holdSent := rfl
theorem M_X8_holdSent : qh_M I_X8_holdSent 2 := ⟨by decide, by decide, by decide +kernel, q95, q2197, by decide⟩
def T_X8_holdSent (a1 a2 : Int32) (S : qm_S) (K : Int32 → Prop) : Prop := ∀ X1 : Int32 → Int32 → Prop, (∀ (x2 x3 : Int32), (((S.1 29) ≤ x3 → (x2 = 0 ∨ x2 = 1) ∧ K x2) ∧ (¬ (S.1 29) ≤ x3 → vp_in a1 (qm_len 23) ∧ vp_in x3 (qm_len 31) ∧ (x2 = 0 → X1 0 (x3 + 1)) ∧ (¬ x2 = 0 → p_X8_isSent x3 a1 S ∧ ((f_X8_isSent x3 a1 S) = 0 → X1 1 (x3 + 1)) ∧ (¬ (f_X8_isSent x3 a1 S) = 0 → vp_in x3 (qm_len 32) ∧ vp_in x3 (qm_len 33) ∧ vp_in ((4 * ((12 * (S.2 23 a1.toNatClampNeg)) + a2)) + (S.2 31 x3.toNatClampNeg)) (qm_len 3) ∧ ((f_X8_holds (S.2 32 x3.toNatClampNeg) (S.2 33 x3.toNatClampNeg) (S.2 3 ((4 * ((12 * (S.2 23 a1.toNatClampNeg)) + a2)) + (S.2 31 x3.toNatClampNeg)).toNatClampNeg)) = 0 → X1 0 (x3 + 1)) ∧ (¬ (f_X8_holds (S.2 32 x3.toNatClampNeg) (S.2 33 x3.toNatClampNeg) (S.2 3 ((4 * ((12 * (S.2 23 a1.toNatClampNeg)) + a2)) + (S.2 31 x3.toNatClampNeg)).toNatClampNeg)) = 0 → X1 1 (x3 + 1)))))) → X1 x2 x3) → X1 1 0
set_option maxHeartbeats 4000000 in
theorem C_X8_holdSent {M : qm_G} {d : Nat} (a1 a2 : Int32) (S : qm_S) (K : Int32 → Prop) (h : T_X8_holdSent a1 a2 S K) : qm_C M (d + 3) I_X8_holdSent [.ref M.2.2.1, .int a1, .int a2] S (fun v S' => ∃ r, v = some (.int r) ∧ (r = 0 ∨ r = 1) ∧ S = S' ∧ K r) := by
  refine qm_C.of (by decide) rfl (ls := [some (.ref M.2.2.1), some (.int a1), some (.int a2), none, none, none]) rfl (Nat.le_of_ble_eq_true rfl) (qm_ct rfl) ?_
  unfold T_X8_holdSent at h
  refine qm_iconst E_X8_holdSent 1 (by decide) dX8_holdSent_0 ?_
  refine qm_istore_n E_X8_holdSent (by decide) dX8_holdSent_1 ?_
  refine qm_iconst E_X8_holdSent 0 (by decide) dX8_holdSent_2 ?_
  refine qm_istore E_X8_holdSent (by decide) dX8_holdSent_3 ?_
  refine h (fun x2 x3 => qm_wp M (d + 3) I_X8_holdSent 5 [some (.ref M.2.2.1), some (.int a1), some (.int a2), some (.int x2), some (.int x3), none] [] S (fun v S' => ∃ r, v = some (.int r) ∧ (r = 0 ∨ r = 1) ∧ S = S' ∧ K r)) ?_
  intro x2 x3 h
  refine qm_iload E_X8_holdSent (by rfl) dX8_holdSent_5 ?_
  refine qm_aload_n E_X8_holdSent (by rfl) dX8_holdSent_7 ?_
  refine qm_get E_X8_holdSent rfl 29 (by decide) q1686 (v := .int (S.1 29)) rfl dX8_holdSent_8 ?_
  refine qm_icmp_ge E_X8_holdSent 90 dX8_holdSent_11 (by decide) (fun (c4 : (S.1 29) ≤ x3) => ?_) (fun (c4 : ¬ (S.1 29) ≤ x3) => ?_)
  · have h := h.1 c4
    refine qm_iload_n E_X8_holdSent (by rfl) dX8_holdSent_90 ?_
    obtain ⟨o5, h⟩ := h
    exact qm_zret E_X8_holdSent rfl (qm_nb o5) dX8_holdSent_91 ⟨_, rfl, o5, rfl, h⟩
  · have h := h.2 c4
    refine qm_iconst E_X8_holdSent 4 (by decide) dX8_holdSent_14 ?_
    refine qm_bipush E_X8_holdSent 12 (by decide) dX8_holdSent_15 ?_
    refine qm_aload_n E_X8_holdSent (by rfl) dX8_holdSent_17 ?_
    refine qm_get E_X8_holdSent rfl 23 (by decide) q1680 (v := .ref (M.2.2.2 23)) rfl dX8_holdSent_18 ?_
    refine qm_iload_n E_X8_holdSent (by rfl) dX8_holdSent_21 ?_
    obtain ⟨o6, h⟩ := h
    refine qm_iald E_X8_holdSent 23 (by decide) rfl o6 dX8_holdSent_22 ?_
    refine qm_imul E_X8_holdSent dX8_holdSent_23 ?_
    refine qm_iload_n E_X8_holdSent (by rfl) dX8_holdSent_24 ?_
    refine qm_iadd E_X8_holdSent dX8_holdSent_25 ?_
    refine qm_imul E_X8_holdSent dX8_holdSent_26 ?_
    refine qm_aload_n E_X8_holdSent (by rfl) dX8_holdSent_27 ?_
    refine qm_get E_X8_holdSent rfl 31 (by decide) q1688 (v := .ref (M.2.2.2 31)) rfl dX8_holdSent_28 ?_
    refine qm_iload E_X8_holdSent (by rfl) dX8_holdSent_31 ?_
    obtain ⟨o7, h⟩ := h
    refine qm_iald E_X8_holdSent 31 (by decide) rfl o7 dX8_holdSent_33 ?_
    refine qm_iadd E_X8_holdSent dX8_holdSent_34 ?_
    refine qm_istore E_X8_holdSent (by decide) dX8_holdSent_35 ?_
    refine qm_iload_n E_X8_holdSent (by rfl) dX8_holdSent_37 ?_
    refine qm_if_eq E_X8_holdSent 82 dX8_holdSent_38 (by decide) (fun (c8 : x2 = 0) => ?_) (fun (c8 : ¬ x2 = 0) => ?_)
    · have h := h.1 c8
      refine qm_iconst E_X8_holdSent 0 (by decide) dX8_holdSent_82 ?_
      refine qm_istore_n E_X8_holdSent (by decide) dX8_holdSent_83 ?_
      refine qm_iinc E_X8_holdSent 1 rfl (by decide) (by decide) dX8_holdSent_84 ?_
      refine qm_goto E_X8_holdSent 5 dX8_holdSent_87 (by decide) ?_
      refine qm_drop 5 ?_
      exact h
    · have h := h.2 c8
      refine qm_aload_n E_X8_holdSent (by rfl) dX8_holdSent_41 ?_
      refine qm_iload E_X8_holdSent (by rfl) dX8_holdSent_42 ?_
      refine qm_iload_n E_X8_holdSent (by rfl) dX8_holdSent_44 ?_
      obtain ⟨o9, h⟩ := h
      refine qm_callV (As := [.int x3, .int a1]) (rest := []) E_X8_holdSent rfl M_X8_isSent rfl q2129 q2131 qs53 rfl rfl rfl (Nat.le_of_ble_eq_true rfl) dX8_holdSent_45 (C_X8_isSent (d := d + 1) x3 a1 S _ o9 ?_)
      refine qm_if_eq E_X8_holdSent 78 dX8_holdSent_48 (by decide) (fun (c10 : (f_X8_isSent x3 a1 S) = 0) => ?_) (fun (c10 : ¬ (f_X8_isSent x3 a1 S) = 0) => ?_)
      · have h := h.1 c10
        refine qm_iconst E_X8_holdSent 1 (by decide) dX8_holdSent_78 ?_
        refine qm_goto E_X8_holdSent 83 dX8_holdSent_79 (by decide) ?_
        refine qm_istore_n E_X8_holdSent (by decide) dX8_holdSent_83 ?_
        refine qm_iinc E_X8_holdSent 1 rfl (by decide) (by decide) dX8_holdSent_84 ?_
        refine qm_goto E_X8_holdSent 5 dX8_holdSent_87 (by decide) ?_
        refine qm_drop 5 ?_
        exact h
      · have h := h.2 c10
        refine qm_aload_n E_X8_holdSent (by rfl) dX8_holdSent_51 ?_
        refine qm_get E_X8_holdSent rfl 32 (by decide) q1689 (v := .ref (M.2.2.2 32)) rfl dX8_holdSent_52 ?_
        refine qm_iload E_X8_holdSent (by rfl) dX8_holdSent_55 ?_
        obtain ⟨o11, h⟩ := h
        refine qm_iald E_X8_holdSent 32 (by decide) rfl o11 dX8_holdSent_57 ?_
        refine qm_aload_n E_X8_holdSent (by rfl) dX8_holdSent_58 ?_
        refine qm_get E_X8_holdSent rfl 33 (by decide) q1690 (v := .ref (M.2.2.2 33)) rfl dX8_holdSent_59 ?_
        refine qm_iload E_X8_holdSent (by rfl) dX8_holdSent_62 ?_
        obtain ⟨o12, h⟩ := h
        refine qm_iald E_X8_holdSent 33 (by decide) rfl o12 dX8_holdSent_64 ?_
        refine qm_aload_n E_X8_holdSent (by rfl) dX8_holdSent_65 ?_
        refine qm_get E_X8_holdSent rfl 3 (by decide) q1660 (v := .ref (M.2.2.2 3)) rfl dX8_holdSent_66 ?_
        refine qm_iload E_X8_holdSent (by rfl) dX8_holdSent_69 ?_
        obtain ⟨o13, h⟩ := h
        refine qm_iald E_X8_holdSent 3 (by decide) rfl o13 dX8_holdSent_71 ?_
        refine qm_callS (As := [.int (S.2 32 x3.toNatClampNeg), .int (S.2 33 x3.toNatClampNeg), .int (S.2 3 ((4 * ((12 * (S.2 23 a1.toNatClampNeg)) + a2)) + (S.2 31 x3.toNatClampNeg)).toNatClampNeg)]) (rest := []) E_X8_holdSent rfl M_X8_holds rfl q2167 q2168 rfl rfl (Nat.le_of_ble_eq_true rfl) dX8_holdSent_72 (C_X8_holds (d := d) (S.2 32 x3.toNatClampNeg) (S.2 33 x3.toNatClampNeg) (S.2 3 ((4 * ((12 * (S.2 23 a1.toNatClampNeg)) + a2)) + (S.2 31 x3.toNatClampNeg)).toNatClampNeg) S _ ?_)
        refine qm_if_eq E_X8_holdSent 82 dX8_holdSent_75 (by decide) (fun (c14 : (f_X8_holds (S.2 32 x3.toNatClampNeg) (S.2 33 x3.toNatClampNeg) (S.2 3 ((4 * ((12 * (S.2 23 a1.toNatClampNeg)) + a2)) + (S.2 31 x3.toNatClampNeg)).toNatClampNeg)) = 0) => ?_) (fun (c14 : ¬ (f_X8_holds (S.2 32 x3.toNatClampNeg) (S.2 33 x3.toNatClampNeg) (S.2 3 ((4 * ((12 * (S.2 23 a1.toNatClampNeg)) + a2)) + (S.2 31 x3.toNatClampNeg)).toNatClampNeg)) = 0) => ?_)
        · have h := h.1 c14
          refine qm_iconst E_X8_holdSent 0 (by decide) dX8_holdSent_82 ?_
          refine qm_istore_n E_X8_holdSent (by decide) dX8_holdSent_83 ?_
          refine qm_iinc E_X8_holdSent 1 rfl (by decide) (by decide) dX8_holdSent_84 ?_
          refine qm_goto E_X8_holdSent 5 dX8_holdSent_87 (by decide) ?_
          refine qm_drop 5 ?_
          exact h
        · have h := h.2 c14
          refine qm_iconst E_X8_holdSent 1 (by decide) dX8_holdSent_78 ?_
          refine qm_goto E_X8_holdSent 83 dX8_holdSent_79 (by decide) ?_
          refine qm_istore_n E_X8_holdSent (by decide) dX8_holdSent_83 ?_
          refine qm_iinc E_X8_holdSent 1 rfl (by decide) (by decide) dX8_holdSent_84 ?_
          refine qm_goto E_X8_holdSent 5 dX8_holdSent_87 (by decide) ?_
          refine qm_drop 5 ?_
          exact h
def I_X8_lays : qh_I := (yX8_lays, cX8_lays, 7, (Option.none : Option Jvm.ClassFile.FieldType), [])
theorem E_X8_lays : I_X8_lays.2.1 = cX8_lays := rfl
theorem M_X8_lays : qh_M I_X8_lays 2 := ⟨by decide, by decide, by decide +kernel, q95, q2201, by decide⟩
def T_X8_lays (a1 a2 : Int32) (S : qm_S) (K : qm_S → Prop) : Prop := vp_in a1 (qm_len 23) ∧ vp_in a1 (qm_len 57) ∧ ∀ X3 : Int32 → qm_S → Prop, (∀ (x4 : Int32) (S5 : qm_S), (∀ J17 : Prop, ((vp_in ((12 * (S.2 23 a1.toNatClampNeg)) + a2) (qm_len 2) ∧ vp_in ((12 * a1) + x4) (qm_len 58) ∧ ∀ X20 : Int32 → qm_S → Prop, (∀ (x21 : Int32) (S22 : qm_S), ((4 ≤ x21 → K ((S22.1, qm_uA S22.2 57 (upd (S22.2 57) a1.toNatClampNeg ((S22.2 57 a1.toNatClampNeg) + 1))))) ∧ (¬ 4 ≤ x21 → vp_in ((4 * ((12 * (S.2 23 a1.toNatClampNeg)) + a2)) + x21) (qm_len 3) ∧ vp_in ((4 * ((12 * a1) + x4)) + x21) (qm_len 59) ∧ X20 (x21 + 1) ((S22.1, qm_uA S22.2 59 (upd (S22.2 59) ((4 * ((12 * a1) + x4)) + x21).toNatClampNeg (S22.2 3 ((4 * ((12 * (S.2 23 a1.toNatClampNeg)) + a2)) + x21).toNatClampNeg)))))) → X20 x21 S22) → X20 0 ((S5.1, qm_uA S5.2 58 (upd (S5.2 58) ((12 * a1) + x4).toNatClampNeg (S5.2 2 ((12 * (S.2 23 a1.toNatClampNeg)) + a2).toNatClampNeg))))) → J17) → (x4 ≤ 0 → J17) ∧ (¬ x4 ≤ 0 → vp_in (((12 * a1) + x4) - 1) (qm_len 58) ∧ vp_in ((12 * (S.2 23 a1.toNatClampNeg)) + a2) (qm_len 2) ∧ ((S5.2 58 (((12 * a1) + x4) - 1).toNatClampNeg) ≤ (S5.2 2 ((12 * (S.2 23 a1.toNatClampNeg)) + a2).toNatClampNeg) → J17) ∧ (¬ (S5.2 58 (((12 * a1) + x4) - 1).toNatClampNeg) ≤ (S5.2 2 ((12 * (S.2 23 a1.toNatClampNeg)) + a2).toNatClampNeg) → vp_in ((12 * a1) + x4) (qm_len 58) ∧ ∀ X11 : Int32 → qm_S → Prop, (∀ (x12 : Int32) (S13 : qm_S), ((4 ≤ x12 → X3 (x4 + (-1)) S13) ∧ (¬ 4 ≤ x12 → vp_in ((4 * (((12 * a1) + x4) - 1)) + x12) (qm_len 59) ∧ vp_in ((4 * ((12 * a1) + x4)) + x12) (qm_len 59) ∧ X11 (x12 + 1) ((S13.1, qm_uA S13.2 59 (upd (S13.2 59) ((4 * ((12 * a1) + x4)) + x12).toNatClampNeg (S13.2 59 ((4 * (((12 * a1) + x4) - 1)) + x12).toNatClampNeg)))))) → X11 x12 S13) → X11 0 ((S5.1, qm_uA S5.2 58 (upd (S5.2 58) ((12 * a1) + x4).toNatClampNeg (S5.2 58 (((12 * a1) + x4) - 1).toNatClampNeg))))))) → X3 x4 S5) → X3 (S.2 57 a1.toNatClampNeg) S
set_option maxHeartbeats 4000000 in
theorem C_X8_lays {M : qm_G} {d : Nat} (a1 a2 : Int32) (S : qm_S) (K : qm_S → Prop) (h : T_X8_lays a1 a2 S K) : qm_C M (d + 0) I_X8_lays [.ref M.2.2.1, .int a1, .int a2] S (fun v S' => v = none ∧ K S') := by
  refine qm_C.of (by decide) rfl (ls := [some (.ref M.2.2.1), some (.int a1), some (.int a2), none, none, none, none]) rfl (Nat.le_of_ble_eq_true rfl) (qm_ct rfl) ?_
  unfold T_X8_lays at h
  refine qm_bipush E_X8_lays 12 (by decide) dX8_lays_0 ?_
  refine qm_aload_n E_X8_lays (by rfl) dX8_lays_2 ?_
  refine qm_get E_X8_lays rfl 23 (by decide) q1680 (v := .ref (M.2.2.2 23)) rfl dX8_lays_3 ?_
  refine qm_iload_n E_X8_lays (by rfl) dX8_lays_6 ?_
  obtain ⟨o1, h⟩ := h
  refine qm_iald E_X8_lays 23 (by decide) rfl o1 dX8_lays_7 ?_
  refine qm_imul E_X8_lays dX8_lays_8 ?_
  refine qm_iload_n E_X8_lays (by rfl) dX8_lays_9 ?_
  refine qm_iadd E_X8_lays dX8_lays_10 ?_
  refine qm_istore_n E_X8_lays (by decide) dX8_lays_11 ?_
  refine qm_aload_n E_X8_lays (by rfl) dX8_lays_12 ?_
  refine qm_get E_X8_lays rfl 57 (by decide) q1714 (v := .ref (M.2.2.2 57)) rfl dX8_lays_13 ?_
  refine qm_iload_n E_X8_lays (by rfl) dX8_lays_16 ?_
  obtain ⟨o2, h⟩ := h
  refine qm_iald E_X8_lays 57 (by decide) rfl o2 dX8_lays_17 ?_
  refine qm_istore E_X8_lays (by decide) dX8_lays_18 ?_
  refine h (fun x4 S5 => qm_wp M (d + 0) I_X8_lays 20 [some (.ref M.2.2.1), some (.int a1), some (.int a2), some (.int ((12 * (S.2 23 a1.toNatClampNeg)) + a2)), some (.int x4), none, none] [] S5 (fun v S' => v = none ∧ K S')) ?_
  intro x4 S5 h
  refine qm_iload E_X8_lays (by rfl) dX8_lays_20 ?_
  have h := h (qm_wp M (d + 0) I_X8_lays 120 [some (.ref M.2.2.1), some (.int a1), some (.int a2), some (.int ((12 * (S.2 23 a1.toNatClampNeg)) + a2)), some (.int x4), none, none] [] S5 (fun v S' => v = none ∧ K S')) (by
    intro h
    refine qm_aload_n E_X8_lays (by rfl) dX8_lays_120 ?_
    refine qm_get E_X8_lays rfl 58 (by decide) q1715 (v := .ref (M.2.2.2 58)) rfl dX8_lays_121 ?_
    refine qm_bipush E_X8_lays 12 (by decide) dX8_lays_124 ?_
    refine qm_iload_n E_X8_lays (by rfl) dX8_lays_126 ?_
    refine qm_imul E_X8_lays dX8_lays_127 ?_
    refine qm_iload E_X8_lays (by rfl) dX8_lays_128 ?_
    refine qm_iadd E_X8_lays dX8_lays_130 ?_
    refine qm_aload_n E_X8_lays (by rfl) dX8_lays_131 ?_
    refine qm_get E_X8_lays rfl 2 (by decide) q1659 (v := .ref (M.2.2.2 2)) rfl dX8_lays_132 ?_
    refine qm_iload_n E_X8_lays (by rfl) dX8_lays_135 ?_
    obtain ⟨o18, h⟩ := h
    refine qm_iald E_X8_lays 2 (by decide) rfl o18 dX8_lays_136 ?_
    obtain ⟨o19, h⟩ := h
    refine qm_iast E_X8_lays 58 (by decide) rfl o19 dX8_lays_137 ?_
    refine qm_iconst E_X8_lays 0 (by decide) dX8_lays_138 ?_
    refine qm_istore E_X8_lays (by decide) dX8_lays_139 ?_
    refine h (fun x21 S22 => qm_wp M (d + 0) I_X8_lays 141 [some (.ref M.2.2.1), some (.int a1), some (.int a2), some (.int ((12 * (S.2 23 a1.toNatClampNeg)) + a2)), some (.int x4), some (.int x21), none] [] S22 (fun v S' => v = none ∧ K S')) ?_
    intro x21 S22 h
    refine qm_iload E_X8_lays (by rfl) dX8_lays_141 ?_
    refine qm_iconst E_X8_lays 4 (by decide) dX8_lays_143 ?_
    refine qm_icmp_ge E_X8_lays 181 dX8_lays_144 (by decide) (fun (c23 : 4 ≤ x21) => ?_) (fun (c23 : ¬ 4 ≤ x21) => ?_)
    · have h := h.1 c23
      refine qm_aload_n E_X8_lays (by rfl) dX8_lays_181 ?_
      refine qm_get E_X8_lays rfl 57 (by decide) q1714 (v := .ref (M.2.2.2 57)) rfl dX8_lays_182 ?_
      refine qm_iload_n E_X8_lays (by rfl) dX8_lays_185 ?_
      refine qm_dup2 E_X8_lays rfl rfl dX8_lays_186 ?_
      refine qm_iald E_X8_lays 57 (by decide) rfl o2 dX8_lays_187 ?_
      refine qm_iconst E_X8_lays 1 (by decide) dX8_lays_188 ?_
      refine qm_iadd E_X8_lays dX8_lays_189 ?_
      refine qm_iast E_X8_lays 57 (by decide) rfl o2 dX8_lays_190 ?_
      exact qm_vret E_X8_lays rfl dX8_lays_191 ⟨rfl, h⟩
    · have h := h.2 c23
      refine qm_aload_n E_X8_lays (by rfl) dX8_lays_147 ?_
      refine qm_get E_X8_lays rfl 59 (by decide) q1716 (v := .ref (M.2.2.2 59)) rfl dX8_lays_148 ?_
      refine qm_iconst E_X8_lays 4 (by decide) dX8_lays_151 ?_
      refine qm_bipush E_X8_lays 12 (by decide) dX8_lays_152 ?_
      refine qm_iload_n E_X8_lays (by rfl) dX8_lays_154 ?_
      refine qm_imul E_X8_lays dX8_lays_155 ?_
      refine qm_iload E_X8_lays (by rfl) dX8_lays_156 ?_
      refine qm_iadd E_X8_lays dX8_lays_158 ?_
      refine qm_imul E_X8_lays dX8_lays_159 ?_
      refine qm_iload E_X8_lays (by rfl) dX8_lays_160 ?_
      refine qm_iadd E_X8_lays dX8_lays_162 ?_
      refine qm_aload_n E_X8_lays (by rfl) dX8_lays_163 ?_
      refine qm_get E_X8_lays rfl 3 (by decide) q1660 (v := .ref (M.2.2.2 3)) rfl dX8_lays_164 ?_
      refine qm_iconst E_X8_lays 4 (by decide) dX8_lays_167 ?_
      refine qm_iload_n E_X8_lays (by rfl) dX8_lays_168 ?_
      refine qm_imul E_X8_lays dX8_lays_169 ?_
      refine qm_iload E_X8_lays (by rfl) dX8_lays_170 ?_
      refine qm_iadd E_X8_lays dX8_lays_172 ?_
      obtain ⟨o24, h⟩ := h
      refine qm_iald E_X8_lays 3 (by decide) rfl o24 dX8_lays_173 ?_
      obtain ⟨o25, h⟩ := h
      refine qm_iast E_X8_lays 59 (by decide) rfl o25 dX8_lays_174 ?_
      refine qm_iinc E_X8_lays 1 rfl (by decide) (by decide) dX8_lays_175 ?_
      refine qm_goto E_X8_lays 141 dX8_lays_178 (by decide) ?_
      exact h)
  refine qm_if_le E_X8_lays 120 dX8_lays_22 (by decide) (fun (c6 : x4 ≤ 0) => ?_) (fun (c6 : ¬ x4 ≤ 0) => ?_)
  · have h := h.1 c6
    exact h
  · have h := h.2 c6
    refine qm_aload_n E_X8_lays (by rfl) dX8_lays_25 ?_
    refine qm_get E_X8_lays rfl 58 (by decide) q1715 (v := .ref (M.2.2.2 58)) rfl dX8_lays_26 ?_
    refine qm_bipush E_X8_lays 12 (by decide) dX8_lays_29 ?_
    refine qm_iload_n E_X8_lays (by rfl) dX8_lays_31 ?_
    refine qm_imul E_X8_lays dX8_lays_32 ?_
    refine qm_iload E_X8_lays (by rfl) dX8_lays_33 ?_
    refine qm_iadd E_X8_lays dX8_lays_35 ?_
    refine qm_iconst E_X8_lays 1 (by decide) dX8_lays_36 ?_
    refine qm_isub E_X8_lays dX8_lays_37 ?_
    obtain ⟨o7, h⟩ := h
    refine qm_iald E_X8_lays 58 (by decide) rfl o7 dX8_lays_38 ?_
    refine qm_aload_n E_X8_lays (by rfl) dX8_lays_39 ?_
    refine qm_get E_X8_lays rfl 2 (by decide) q1659 (v := .ref (M.2.2.2 2)) rfl dX8_lays_40 ?_
    refine qm_iload_n E_X8_lays (by rfl) dX8_lays_43 ?_
    obtain ⟨o8, h⟩ := h
    refine qm_iald E_X8_lays 2 (by decide) rfl o8 dX8_lays_44 ?_
    refine qm_icmp_le E_X8_lays 120 dX8_lays_45 (by decide) (fun (c9 : (S5.2 58 (((12 * a1) + x4) - 1).toNatClampNeg) ≤ (S5.2 2 ((12 * (S.2 23 a1.toNatClampNeg)) + a2).toNatClampNeg)) => ?_) (fun (c9 : ¬ (S5.2 58 (((12 * a1) + x4) - 1).toNatClampNeg) ≤ (S5.2 2 ((12 * (S.2 23 a1.toNatClampNeg)) + a2).toNatClampNeg)) => ?_)
    · have h := h.1 c9
      exact h
    · have h := h.2 c9
      refine qm_bipush E_X8_lays 12 (by decide) dX8_lays_48 ?_
      refine qm_iload_n E_X8_lays (by rfl) dX8_lays_50 ?_
      refine qm_imul E_X8_lays dX8_lays_51 ?_
      refine qm_iload E_X8_lays (by rfl) dX8_lays_52 ?_
      refine qm_iadd E_X8_lays dX8_lays_54 ?_
      refine qm_istore E_X8_lays (by decide) dX8_lays_55 ?_
      refine qm_aload_n E_X8_lays (by rfl) dX8_lays_57 ?_
      refine qm_get E_X8_lays rfl 58 (by decide) q1715 (v := .ref (M.2.2.2 58)) rfl dX8_lays_58 ?_
      refine qm_iload E_X8_lays (by rfl) dX8_lays_61 ?_
      refine qm_aload_n E_X8_lays (by rfl) dX8_lays_63 ?_
      refine qm_get E_X8_lays rfl 58 (by decide) q1715 (v := .ref (M.2.2.2 58)) rfl dX8_lays_64 ?_
      refine qm_iload E_X8_lays (by rfl) dX8_lays_67 ?_
      refine qm_iconst E_X8_lays 1 (by decide) dX8_lays_69 ?_
      refine qm_isub E_X8_lays dX8_lays_70 ?_
      refine qm_iald E_X8_lays 58 (by decide) rfl o7 dX8_lays_71 ?_
      obtain ⟨o10, h⟩ := h
      refine qm_iast E_X8_lays 58 (by decide) rfl o10 dX8_lays_72 ?_
      refine qm_iconst E_X8_lays 0 (by decide) dX8_lays_73 ?_
      refine qm_istore E_X8_lays (by decide) dX8_lays_74 ?_
      refine h (fun x12 S13 => qm_wp M (d + 0) I_X8_lays 76 [some (.ref M.2.2.1), some (.int a1), some (.int a2), some (.int ((12 * (S.2 23 a1.toNatClampNeg)) + a2)), some (.int x4), some (.int ((12 * a1) + x4)), some (.int x12)] [] S13 (fun v S' => v = none ∧ K S')) ?_
      intro x12 S13 h
      refine qm_iload E_X8_lays (by rfl) dX8_lays_76 ?_
      refine qm_iconst E_X8_lays 4 (by decide) dX8_lays_78 ?_
      refine qm_icmp_ge E_X8_lays 114 dX8_lays_79 (by decide) (fun (c14 : 4 ≤ x12) => ?_) (fun (c14 : ¬ 4 ≤ x12) => ?_)
      · have h := h.1 c14
        refine qm_iinc E_X8_lays (-1) rfl (by decide) (by decide) dX8_lays_114 ?_
        refine qm_goto E_X8_lays 20 dX8_lays_117 (by decide) ?_
        refine qm_drop 5 ?_
        refine qm_drop 6 ?_
        exact h
      · have h := h.2 c14
        refine qm_aload_n E_X8_lays (by rfl) dX8_lays_82 ?_
        refine qm_get E_X8_lays rfl 59 (by decide) q1716 (v := .ref (M.2.2.2 59)) rfl dX8_lays_83 ?_
        refine qm_iconst E_X8_lays 4 (by decide) dX8_lays_86 ?_
        refine qm_iload E_X8_lays (by rfl) dX8_lays_87 ?_
        refine qm_imul E_X8_lays dX8_lays_89 ?_
        refine qm_iload E_X8_lays (by rfl) dX8_lays_90 ?_
        refine qm_iadd E_X8_lays dX8_lays_92 ?_
        refine qm_aload_n E_X8_lays (by rfl) dX8_lays_93 ?_
        refine qm_get E_X8_lays rfl 59 (by decide) q1716 (v := .ref (M.2.2.2 59)) rfl dX8_lays_94 ?_
        refine qm_iconst E_X8_lays 4 (by decide) dX8_lays_97 ?_
        refine qm_iload E_X8_lays (by rfl) dX8_lays_98 ?_
        refine qm_iconst E_X8_lays 1 (by decide) dX8_lays_100 ?_
        refine qm_isub E_X8_lays dX8_lays_101 ?_
        refine qm_imul E_X8_lays dX8_lays_102 ?_
        refine qm_iload E_X8_lays (by rfl) dX8_lays_103 ?_
        refine qm_iadd E_X8_lays dX8_lays_105 ?_
        obtain ⟨o15, h⟩ := h
        refine qm_iald E_X8_lays 59 (by decide) rfl o15 dX8_lays_106 ?_
        obtain ⟨o16, h⟩ := h
        refine qm_iast E_X8_lays 59 (by decide) rfl o16 dX8_lays_107 ?_
        refine qm_iinc E_X8_lays 1 rfl (by decide) (by decide) dX8_lays_108 ?_
        refine qm_goto E_X8_lays 76 dX8_lays_111 (by decide) ?_
        exact h
def I_X8_comes : qh_I := (yX8_comes, cX8_comes, 8, (Option.none : Option Jvm.ClassFile.FieldType), [])
theorem E_X8_comes : I_X8_comes.2.1 = cX8_comes := rfl
theorem M_X8_comes : qh_M I_X8_comes 4 := ⟨by decide, by decide, by decide +kernel, q95, q2193, by decide⟩
def T_X8_comes (a1 a2 a3 a4 : Int32) (S : qm_S) (K : qm_S → Prop) : Prop := vp_in a1 (qm_len 23) ∧ ∀ X2 : Int32 → Int32 → qm_S → Prop, (∀ (x3 x4 : Int32) (S5 : qm_S), (vp_in (S.2 23 a1.toNatClampNeg) (qm_len 1) ∧ ((S5.2 1 (S.2 23 a1.toNatClampNeg).toNatClampNeg) ≤ x4 → vp_in (f_X8_storeOf (S.2 23 a1.toNatClampNeg)) (qm_len 19) ∧ T_X8_pays (x3 * (S5.2 19 (f_X8_storeOf (S.2 23 a1.toNatClampNeg)).toNatClampNeg)) ((upd S5.1 82 ((S5.1 82) + x3), S5.2)) (fun S9 => K S9)) ∧ (¬ (S5.2 1 (S.2 23 a1.toNatClampNeg).toNatClampNeg) ≤ x4 → T_X8_holdSent a1 x4 S5 (fun r10 => (r10 = 0 → X2 x3 (x4 + 1) S5) ∧ (¬ r10 = 0 → (a2 = ((-1)) → vp_in (f_X8_storeOf (S.2 23 a1.toNatClampNeg)) (qm_len 12) ∧ (¬ x3 = (S5.2 12 (f_X8_storeOf (S.2 23 a1.toNatClampNeg)).toNatClampNeg) → T_X8_lays a1 x4 S5 (fun S16 => X2 (x3 + 1) (x4 + 1) S16)) ∧ (x3 = (S5.2 12 (f_X8_storeOf (S.2 23 a1.toNatClampNeg)).toNatClampNeg) → X2 x3 (x4 + 1) ((upd S5.1 62 1, S5.2)))) ∧ (¬ a2 = ((-1)) → vp_in ((4 * ((12 * (S.2 23 a1.toNatClampNeg)) + x4)) + a2) (qm_len 3) ∧ T_X8_isKey (S5.2 3 ((4 * ((12 * (S.2 23 a1.toNatClampNeg)) + x4)) + a2).toNatClampNeg) a3 a4 S5 (fun r18 => (r18 = 0 → X2 x3 (x4 + 1) S5) ∧ (¬ r18 = 0 → vp_in (f_X8_storeOf (S.2 23 a1.toNatClampNeg)) (qm_len 12) ∧ (¬ x3 = (S5.2 12 (f_X8_storeOf (S.2 23 a1.toNatClampNeg)).toNatClampNeg) → T_X8_lays a1 x4 S5 (fun S23 => X2 (x3 + 1) (x4 + 1) S23)) ∧ (x3 = (S5.2 12 (f_X8_storeOf (S.2 23 a1.toNatClampNeg)).toNatClampNeg) → X2 x3 (x4 + 1) ((upd S5.1 62 1, S5.2)))))))))) → X2 x3 x4 S5) → X2 0 0 ((upd S.1 62 0, S.2))
set_option maxHeartbeats 4000000 in
theorem C_X8_comes {M : qm_G} {d : Nat} (a1 a2 a3 a4 : Int32) (S : qm_S) (K : qm_S → Prop) (h : T_X8_comes a1 a2 a3 a4 S K) : qm_C M (d + 4) I_X8_comes [.ref M.2.2.1, .int a1, .int a2, .int a3, .int a4] S (fun v S' => v = none ∧ K S') := by
  refine qm_C.of (by decide) rfl (ls := [some (.ref M.2.2.1), some (.int a1), some (.int a2), some (.int a3), some (.int a4), none, none, none]) rfl (Nat.le_of_ble_eq_true rfl) (qm_ct rfl) ?_
  unfold T_X8_comes at h
  refine qm_aload_n E_X8_comes (by rfl) dX8_comes_0 ?_
  refine qm_get E_X8_comes rfl 23 (by decide) q1680 (v := .ref (M.2.2.2 23)) rfl dX8_comes_1 ?_
  refine qm_iload_n E_X8_comes (by rfl) dX8_comes_4 ?_
  obtain ⟨o1, h⟩ := h
  refine qm_iald E_X8_comes 23 (by decide) rfl o1 dX8_comes_5 ?_
  refine qm_istore E_X8_comes (by decide) dX8_comes_6 ?_
  refine qm_iconst E_X8_comes 0 (by decide) dX8_comes_8 ?_
  refine qm_istore E_X8_comes (by decide) dX8_comes_9 ?_
  refine qm_aload_n E_X8_comes (by rfl) dX8_comes_11 ?_
  refine qm_iconst E_X8_comes 0 (by decide) dX8_comes_12 ?_
  refine qm_put E_X8_comes rfl 62 (by decide) q1719 rfl (qm_nb (Or.inl rfl)) (qm_fb (Or.inl rfl)) (qm_set62) dX8_comes_13 ?_
  refine qm_iconst E_X8_comes 0 (by decide) dX8_comes_16 ?_
  refine qm_istore E_X8_comes (by decide) dX8_comes_17 ?_
  refine h (fun x3 x4 S5 => qm_wp M (d + 4) I_X8_comes 19 [some (.ref M.2.2.1), some (.int a1), some (.int a2), some (.int a3), some (.int a4), some (.int (S.2 23 a1.toNatClampNeg)), some (.int x3), some (.int x4)] [] S5 (fun v S' => v = none ∧ K S')) ?_
  intro x3 x4 S5 h
  refine qm_iload E_X8_comes (by rfl) dX8_comes_19 ?_
  refine qm_aload_n E_X8_comes (by rfl) dX8_comes_21 ?_
  refine qm_get E_X8_comes rfl 1 (by decide) q1658 (v := .ref (M.2.2.2 1)) rfl dX8_comes_22 ?_
  refine qm_iload E_X8_comes (by rfl) dX8_comes_25 ?_
  obtain ⟨o6, h⟩ := h
  refine qm_iald E_X8_comes 1 (by decide) rfl o6 dX8_comes_27 ?_
  refine qm_icmp_ge E_X8_comes 112 dX8_comes_28 (by decide) (fun (c7 : (S5.2 1 (S.2 23 a1.toNatClampNeg).toNatClampNeg) ≤ x4) => ?_) (fun (c7 : ¬ (S5.2 1 (S.2 23 a1.toNatClampNeg).toNatClampNeg) ≤ x4) => ?_)
  · have h := h.1 c7
    refine qm_aload_n E_X8_comes (by rfl) dX8_comes_112 ?_
    refine qm_dup E_X8_comes rfl dX8_comes_113 ?_
    refine qm_get E_X8_comes rfl 82 (by decide) q1739 (v := .int (S5.1 82)) rfl dX8_comes_114 ?_
    refine qm_iload E_X8_comes (by rfl) dX8_comes_117 ?_
    refine qm_iadd E_X8_comes dX8_comes_119 ?_
    refine qm_put E_X8_comes rfl 82 (by decide) q1739 rfl rfl rfl (qm_set82) dX8_comes_120 ?_
    refine qm_aload_n E_X8_comes (by rfl) dX8_comes_123 ?_
    refine qm_iload E_X8_comes (by rfl) dX8_comes_124 ?_
    refine qm_aload_n E_X8_comes (by rfl) dX8_comes_126 ?_
    refine qm_get E_X8_comes rfl 19 (by decide) q1676 (v := .ref (M.2.2.2 19)) rfl dX8_comes_127 ?_
    refine qm_iload E_X8_comes (by rfl) dX8_comes_130 ?_
    refine qm_callS (As := [.int (S.2 23 a1.toNatClampNeg)]) (rest := [.ref (M.2.2.2 19), .int x3, .ref M.2.2.1]) E_X8_comes rfl M_X8_storeOf rfl q1964 q1965 rfl rfl (Nat.le_of_ble_eq_true rfl) dX8_comes_132 (C_X8_storeOf (d := d + 3) (S.2 23 a1.toNatClampNeg) ((upd S5.1 82 ((S5.1 82) + x3), S5.2)) _ ?_)
    obtain ⟨o8, h⟩ := h
    refine qm_iald E_X8_comes 19 (by decide) rfl o8 dX8_comes_135 ?_
    refine qm_imul E_X8_comes dX8_comes_136 ?_
    refine qm_callV (As := [.int (x3 * (S5.2 19 (f_X8_storeOf (S.2 23 a1.toNatClampNeg)).toNatClampNeg))]) (rest := []) E_X8_comes rfl M_X8_pays rfl q2186 q2188 qs65 rfl rfl rfl (Nat.le_of_ble_eq_true rfl) dX8_comes_137 (qm_C.mono ?_ (C_X8_pays (d := d + 3) (x3 * (S5.2 19 (f_X8_storeOf (S.2 23 a1.toNatClampNeg)).toNatClampNeg)) ((upd S5.1 82 ((S5.1 82) + x3), S5.2)) _ h))
    rintro _ S9 ⟨rfl, h⟩
    exact qm_vret E_X8_comes rfl dX8_comes_140 ⟨rfl, h⟩
  · have h := h.2 c7
    refine qm_aload_n E_X8_comes (by rfl) dX8_comes_31 ?_
    refine qm_iload_n E_X8_comes (by rfl) dX8_comes_32 ?_
    refine qm_iload E_X8_comes (by rfl) dX8_comes_33 ?_
    refine qm_callV (As := [.int a1, .int x4]) (rest := []) E_X8_comes rfl M_X8_holdSent rfl q2194 q2196 qs67 rfl rfl rfl (Nat.le_of_ble_eq_true rfl) dX8_comes_35 (qm_C.mono ?_ (C_X8_holdSent (d := d) a1 x4 S5 _ h))
    rintro _ _ ⟨r10, rfl, z11, rfl, h⟩
    refine qm_if_eq E_X8_comes 106 dX8_comes_38 (by decide) (fun (c12 : r10 = 0) => ?_) (fun (c12 : ¬ r10 = 0) => ?_)
    · have h := h.1 c12
      refine qm_iinc E_X8_comes 1 rfl (by decide) (by decide) dX8_comes_106 ?_
      refine qm_goto E_X8_comes 19 dX8_comes_109 (by decide) ?_
      exact h
    · have h := h.2 c12
      refine qm_iload_n E_X8_comes (by rfl) dX8_comes_41 ?_
      refine qm_iconst E_X8_comes (-1) (by decide) dX8_comes_42 ?_
      refine qm_icmp_eq E_X8_comes 73 dX8_comes_43 (by decide) (fun (c13 : a2 = ((-1))) => ?_) (fun (c13 : ¬ a2 = ((-1))) => ?_)
      · have h := h.1 c13
        refine qm_iload E_X8_comes (by rfl) dX8_comes_73 ?_
        refine qm_aload_n E_X8_comes (by rfl) dX8_comes_75 ?_
        refine qm_get E_X8_comes rfl 12 (by decide) q1669 (v := .ref (M.2.2.2 12)) rfl dX8_comes_76 ?_
        refine qm_iload E_X8_comes (by rfl) dX8_comes_79 ?_
        refine qm_callS (As := [.int (S.2 23 a1.toNatClampNeg)]) (rest := [.ref (M.2.2.2 12), .int x3]) E_X8_comes rfl M_X8_storeOf rfl q1964 q1965 rfl rfl (Nat.le_of_ble_eq_true rfl) dX8_comes_81 (C_X8_storeOf (d := d + 3) (S.2 23 a1.toNatClampNeg) S5 _ ?_)
        obtain ⟨o14, h⟩ := h
        refine qm_iald E_X8_comes 12 (by decide) rfl o14 dX8_comes_84 ?_
        refine qm_icmp_ne E_X8_comes 96 dX8_comes_85 (by decide) (fun (c15 : ¬ x3 = (S5.2 12 (f_X8_storeOf (S.2 23 a1.toNatClampNeg)).toNatClampNeg)) => ?_) (fun (c15 : x3 = (S5.2 12 (f_X8_storeOf (S.2 23 a1.toNatClampNeg)).toNatClampNeg)) => ?_)
        · have h := h.1 c15
          refine qm_aload_n E_X8_comes (by rfl) dX8_comes_96 ?_
          refine qm_iload_n E_X8_comes (by rfl) dX8_comes_97 ?_
          refine qm_iload E_X8_comes (by rfl) dX8_comes_98 ?_
          refine qm_callV (As := [.int a1, .int x4]) (rest := []) E_X8_comes rfl M_X8_lays rfl q2198 q2200 qs68 rfl rfl rfl (Nat.le_of_ble_eq_true rfl) dX8_comes_100 (qm_C.mono ?_ (C_X8_lays (d := d + 3) a1 x4 S5 _ h))
          rintro _ S16 ⟨rfl, h⟩
          refine qm_iinc E_X8_comes 1 rfl (by decide) (by decide) dX8_comes_103 ?_
          refine qm_iinc E_X8_comes 1 rfl (by decide) (by decide) dX8_comes_106 ?_
          refine qm_goto E_X8_comes 19 dX8_comes_109 (by decide) ?_
          exact h
        · have h := h.2 c15
          refine qm_aload_n E_X8_comes (by rfl) dX8_comes_88 ?_
          refine qm_iconst E_X8_comes 1 (by decide) dX8_comes_89 ?_
          refine qm_put E_X8_comes rfl 62 (by decide) q1719 rfl (qm_nb (Or.inr rfl)) (qm_fb (Or.inr rfl)) (qm_set62) dX8_comes_90 ?_
          refine qm_goto E_X8_comes 106 dX8_comes_93 (by decide) ?_
          refine qm_iinc E_X8_comes 1 rfl (by decide) (by decide) dX8_comes_106 ?_
          refine qm_goto E_X8_comes 19 dX8_comes_109 (by decide) ?_
          exact h
      · have h := h.2 c13
        refine qm_aload_n E_X8_comes (by rfl) dX8_comes_46 ?_
        refine qm_aload_n E_X8_comes (by rfl) dX8_comes_47 ?_
        refine qm_get E_X8_comes rfl 3 (by decide) q1660 (v := .ref (M.2.2.2 3)) rfl dX8_comes_48 ?_
        refine qm_iconst E_X8_comes 4 (by decide) dX8_comes_51 ?_
        refine qm_bipush E_X8_comes 12 (by decide) dX8_comes_52 ?_
        refine qm_iload E_X8_comes (by rfl) dX8_comes_54 ?_
        refine qm_imul E_X8_comes dX8_comes_56 ?_
        refine qm_iload E_X8_comes (by rfl) dX8_comes_57 ?_
        refine qm_iadd E_X8_comes dX8_comes_59 ?_
        refine qm_imul E_X8_comes dX8_comes_60 ?_
        refine qm_iload_n E_X8_comes (by rfl) dX8_comes_61 ?_
        refine qm_iadd E_X8_comes dX8_comes_62 ?_
        obtain ⟨o17, h⟩ := h
        refine qm_iald E_X8_comes 3 (by decide) rfl o17 dX8_comes_63 ?_
        refine qm_iload_n E_X8_comes (by rfl) dX8_comes_64 ?_
        refine qm_iload E_X8_comes (by rfl) dX8_comes_65 ?_
        refine qm_callV (As := [.int (S5.2 3 ((4 * ((12 * (S.2 23 a1.toNatClampNeg)) + x4)) + a2).toNatClampNeg), .int a3, .int a4]) (rest := []) E_X8_comes rfl M_X8_isKey rfl q2170 q2172 qs61 rfl rfl rfl (Nat.le_of_ble_eq_true rfl) dX8_comes_67 (qm_C.mono ?_ (C_X8_isKey (d := d + 3) (S5.2 3 ((4 * ((12 * (S.2 23 a1.toNatClampNeg)) + x4)) + a2).toNatClampNeg) a3 a4 S5 _ h))
        rintro _ _ ⟨r18, rfl, z19, rfl, h⟩
        refine qm_if_eq E_X8_comes 106 dX8_comes_70 (by decide) (fun (c20 : r18 = 0) => ?_) (fun (c20 : ¬ r18 = 0) => ?_)
        · have h := h.1 c20
          refine qm_iinc E_X8_comes 1 rfl (by decide) (by decide) dX8_comes_106 ?_
          refine qm_goto E_X8_comes 19 dX8_comes_109 (by decide) ?_
          exact h
        · have h := h.2 c20
          refine qm_iload E_X8_comes (by rfl) dX8_comes_73 ?_
          refine qm_aload_n E_X8_comes (by rfl) dX8_comes_75 ?_
          refine qm_get E_X8_comes rfl 12 (by decide) q1669 (v := .ref (M.2.2.2 12)) rfl dX8_comes_76 ?_
          refine qm_iload E_X8_comes (by rfl) dX8_comes_79 ?_
          refine qm_callS (As := [.int (S.2 23 a1.toNatClampNeg)]) (rest := [.ref (M.2.2.2 12), .int x3]) E_X8_comes rfl M_X8_storeOf rfl q1964 q1965 rfl rfl (Nat.le_of_ble_eq_true rfl) dX8_comes_81 (C_X8_storeOf (d := d + 3) (S.2 23 a1.toNatClampNeg) S5 _ ?_)
          obtain ⟨o21, h⟩ := h
          refine qm_iald E_X8_comes 12 (by decide) rfl o21 dX8_comes_84 ?_
          refine qm_icmp_ne E_X8_comes 96 dX8_comes_85 (by decide) (fun (c22 : ¬ x3 = (S5.2 12 (f_X8_storeOf (S.2 23 a1.toNatClampNeg)).toNatClampNeg)) => ?_) (fun (c22 : x3 = (S5.2 12 (f_X8_storeOf (S.2 23 a1.toNatClampNeg)).toNatClampNeg)) => ?_)
          · have h := h.1 c22
            refine qm_aload_n E_X8_comes (by rfl) dX8_comes_96 ?_
            refine qm_iload_n E_X8_comes (by rfl) dX8_comes_97 ?_
            refine qm_iload E_X8_comes (by rfl) dX8_comes_98 ?_
            refine qm_callV (As := [.int a1, .int x4]) (rest := []) E_X8_comes rfl M_X8_lays rfl q2198 q2200 qs68 rfl rfl rfl (Nat.le_of_ble_eq_true rfl) dX8_comes_100 (qm_C.mono ?_ (C_X8_lays (d := d + 3) a1 x4 S5 _ h))
            rintro _ S23 ⟨rfl, h⟩
            refine qm_iinc E_X8_comes 1 rfl (by decide) (by decide) dX8_comes_103 ?_
            refine qm_iinc E_X8_comes 1 rfl (by decide) (by decide) dX8_comes_106 ?_
            refine qm_goto E_X8_comes 19 dX8_comes_109 (by decide) ?_
            exact h
          · have h := h.2 c22
            refine qm_aload_n E_X8_comes (by rfl) dX8_comes_88 ?_
            refine qm_iconst E_X8_comes 1 (by decide) dX8_comes_89 ?_
            refine qm_put E_X8_comes rfl 62 (by decide) q1719 rfl (qm_nb (Or.inr rfl)) (qm_fb (Or.inr rfl)) (qm_set62) dX8_comes_90 ?_
            refine qm_goto E_X8_comes 106 dX8_comes_93 (by decide) ?_
            refine qm_iinc E_X8_comes 1 rfl (by decide) (by decide) dX8_comes_106 ?_
            refine qm_goto E_X8_comes 19 dX8_comes_109 (by decide) ?_
            exact h
def I_X8_remembers : qh_I := (yX8_remembers, cX8_remembers, 5, (Option.none : Option Jvm.ClassFile.FieldType), [])
theorem E_X8_remembers : I_X8_remembers.2.1 = cX8_remembers := rfl
theorem M_X8_remembers : qh_M I_X8_remembers 1 := ⟨by decide, by decide, by decide +kernel, q95, q2209, by decide⟩
def T_X8_remembers (a1 : Int32) (S : qm_S) (K : qm_S → Prop) : Prop := ∀ J7 : qm_S → Prop, (∀ (S8 : qm_S), (vp_in a1 (qm_len 23) ∧ vp_in (S8.1 39) (qm_len 40) ∧ vp_in (S8.1 39) (qm_len 41) ∧ vp_in (S8.2 23 a1.toNatClampNeg) (qm_len 5) ∧ vp_in (S8.1 39) (qm_len 42) ∧ vp_in (S8.1 39) (qm_len 43) ∧ vp_in (S8.1 39) (qm_len 44) ∧ vp_in a1 (qm_len 57) ∧ vp_in (S8.1 39) (qm_len 45) ∧ ∀ X18 : Int32 → qm_S → Prop, (∀ (x19 : Int32) (S20 : qm_S), (((S20.2 57 a1.toNatClampNeg) ≤ x19 → ∀ X22 : Int32 → qm_S → Prop, (∀ (x23 : Int32) (S24 : qm_S), ((((S24.2 57 a1.toNatClampNeg) * 4) ≤ x23 → vp_in (S8.1 39) (qm_len 48) ∧ ∀ X27 : Int32 → qm_S → Prop, (∀ (x28 : Int32) (S29 : qm_S), (((S29.1 29) ≤ x28 → K S29) ∧ (¬ (S29.1 29) ≤ x28 → p_X8_isSent x28 a1 S29 ∧ ((f_X8_isSent x28 a1 S29) = 0 → X27 (x28 + 1) S29) ∧ (¬ (f_X8_isSent x28 a1 S29) = 0 → vp_in x28 (qm_len 31) ∧ vp_in ((4 * (S8.1 39)) + (S29.2 48 (S8.1 39).toNatClampNeg)) (qm_len 49) ∧ vp_in x28 (qm_len 32) ∧ vp_in ((4 * (S8.1 39)) + (S29.2 48 (S8.1 39).toNatClampNeg)) (qm_len 50) ∧ vp_in x28 (qm_len 33) ∧ vp_in ((4 * (S8.1 39)) + (S29.2 48 (S8.1 39).toNatClampNeg)) (qm_len 51) ∧ X27 (x28 + 1) ((S29.1, qm_uA (qm_uA (qm_uA (qm_uA S29.2 49 (upd (S29.2 49) ((4 * (S8.1 39)) + (S29.2 48 (S8.1 39).toNatClampNeg)).toNatClampNeg (S29.2 31 x28.toNatClampNeg))) 50 (upd (S29.2 50) ((4 * (S8.1 39)) + (S29.2 48 (S8.1 39).toNatClampNeg)).toNatClampNeg (S29.2 32 x28.toNatClampNeg))) 51 (upd (S29.2 51) ((4 * (S8.1 39)) + (S29.2 48 (S8.1 39).toNatClampNeg)).toNatClampNeg (S29.2 33 x28.toNatClampNeg))) 48 (upd (S29.2 48) (S8.1 39).toNatClampNeg ((S29.2 48 (S8.1 39).toNatClampNeg) + 1))))))) → X27 x28 S29) → X27 0 ((S24.1, qm_uA S24.2 48 (upd (S24.2 48) (S8.1 39).toNatClampNeg 0)))) ∧ (¬ ((S24.2 57 a1.toNatClampNeg) * 4) ≤ x23 → vp_in ((48 * a1) + x23) (qm_len 59) ∧ vp_in ((48 * (S8.1 39)) + x23) (qm_len 47) ∧ X22 (x23 + 1) ((S24.1, qm_uA S24.2 47 (upd (S24.2 47) ((48 * (S8.1 39)) + x23).toNatClampNeg (S24.2 59 ((48 * a1) + x23).toNatClampNeg)))))) → X22 x23 S24) → X22 0 S20) ∧ (¬ (S20.2 57 a1.toNatClampNeg) ≤ x19 → vp_in ((12 * a1) + x19) (qm_len 58) ∧ vp_in ((12 * (S8.1 39)) + x19) (qm_len 46) ∧ X18 (x19 + 1) ((S20.1, qm_uA S20.2 46 (upd (S20.2 46) ((12 * (S8.1 39)) + x19).toNatClampNeg (S20.2 58 ((12 * a1) + x19).toNatClampNeg)))))) → X18 x19 S20) → X18 0 ((upd S8.1 39 ((S8.1 39) + 1), qm_uA (qm_uA (qm_uA (qm_uA (qm_uA (qm_uA S8.2 40 (upd (S8.2 40) (S8.1 39).toNatClampNeg (S8.2 23 a1.toNatClampNeg))) 41 (upd (S8.2 41) (S8.1 39).toNatClampNeg (S8.1 8))) 42 (upd (S8.2 42) (S8.1 39).toNatClampNeg (S8.2 5 (S8.2 23 a1.toNatClampNeg).toNatClampNeg))) 43 (upd (S8.2 43) (S8.1 39).toNatClampNeg ((-1)))) 44 (upd (S8.2 44) (S8.1 39).toNatClampNeg ((-1)))) 45 (upd (S8.2 45) (S8.1 39).toNatClampNeg (S8.2 57 a1.toNatClampNeg))))) → J7 S8) → (¬ (S.1 39) = 6 → J7 S) ∧ ((S.1 39) = 6 → ∀ X2 : Int32 → qm_S → Prop, (∀ (x3 : Int32) (S4 : qm_S), ((6 ≤ x3 → J7 ((upd S4.1 39 ((S4.1 39) - 1), S4.2))) ∧ (¬ 6 ≤ x3 → T_X8_moves x3 (x3 - 1) S4 (fun S6 => X2 (x3 + 1) S6))) → X2 x3 S4) → X2 1 S)
set_option maxHeartbeats 4000000 in
theorem C_X8_remembers {M : qm_G} {d : Nat} (a1 : Int32) (S : qm_S) (K : qm_S → Prop) (h : T_X8_remembers a1 S K) : qm_C M (d + 2) I_X8_remembers [.ref M.2.2.1, .int a1] S (fun v S' => v = none ∧ K S') := by
  refine qm_C.of (by decide) rfl (ls := [some (.ref M.2.2.1), some (.int a1), none, none, none]) rfl (Nat.le_of_ble_eq_true rfl) (qm_ct rfl) ?_
  unfold T_X8_remembers at h
  refine qm_aload_n E_X8_remembers (by rfl) dX8_remembers_0 ?_
  refine qm_get E_X8_remembers rfl 39 (by decide) q1696 (v := .int (S.1 39)) rfl dX8_remembers_1 ?_
  refine qm_bipush E_X8_remembers 6 (by decide) dX8_remembers_4 ?_
  have h := h (fun S8 => qm_wp M (d + 2) I_X8_remembers 41 [some (.ref M.2.2.1), some (.int a1), none, none, none] [] S8 (fun v S' => v = none ∧ K S')) (by
    intro S8 h
    refine qm_aload_n E_X8_remembers (by rfl) dX8_remembers_41 ?_
    refine qm_get E_X8_remembers rfl 39 (by decide) q1696 (v := .int (S8.1 39)) rfl dX8_remembers_42 ?_
    refine qm_istore_n E_X8_remembers (by decide) dX8_remembers_45 ?_
    refine qm_aload_n E_X8_remembers (by rfl) dX8_remembers_46 ?_
    refine qm_dup E_X8_remembers rfl dX8_remembers_47 ?_
    refine qm_get E_X8_remembers rfl 39 (by decide) q1696 (v := .int (S8.1 39)) rfl dX8_remembers_48 ?_
    refine qm_iconst E_X8_remembers 1 (by decide) dX8_remembers_51 ?_
    refine qm_iadd E_X8_remembers dX8_remembers_52 ?_
    refine qm_put E_X8_remembers rfl 39 (by decide) q1696 rfl rfl rfl (qm_set39) dX8_remembers_53 ?_
    refine qm_aload_n E_X8_remembers (by rfl) dX8_remembers_56 ?_
    refine qm_get E_X8_remembers rfl 40 (by decide) q1697 (v := .ref (M.2.2.2 40)) rfl dX8_remembers_57 ?_
    refine qm_iload_n E_X8_remembers (by rfl) dX8_remembers_60 ?_
    refine qm_aload_n E_X8_remembers (by rfl) dX8_remembers_61 ?_
    refine qm_get E_X8_remembers rfl 23 (by decide) q1680 (v := .ref (M.2.2.2 23)) rfl dX8_remembers_62 ?_
    refine qm_iload_n E_X8_remembers (by rfl) dX8_remembers_65 ?_
    obtain ⟨o9, h⟩ := h
    refine qm_iald E_X8_remembers 23 (by decide) rfl o9 dX8_remembers_66 ?_
    obtain ⟨o10, h⟩ := h
    refine qm_iast E_X8_remembers 40 (by decide) rfl o10 dX8_remembers_67 ?_
    refine qm_aload_n E_X8_remembers (by rfl) dX8_remembers_68 ?_
    refine qm_get E_X8_remembers rfl 41 (by decide) q1698 (v := .ref (M.2.2.2 41)) rfl dX8_remembers_69 ?_
    refine qm_iload_n E_X8_remembers (by rfl) dX8_remembers_72 ?_
    refine qm_aload_n E_X8_remembers (by rfl) dX8_remembers_73 ?_
    refine qm_get E_X8_remembers rfl 8 (by decide) q1665 (v := .int (S8.1 8)) rfl dX8_remembers_74 ?_
    obtain ⟨o11, h⟩ := h
    refine qm_iast E_X8_remembers 41 (by decide) rfl o11 dX8_remembers_77 ?_
    refine qm_aload_n E_X8_remembers (by rfl) dX8_remembers_78 ?_
    refine qm_get E_X8_remembers rfl 42 (by decide) q1699 (v := .ref (M.2.2.2 42)) rfl dX8_remembers_79 ?_
    refine qm_iload_n E_X8_remembers (by rfl) dX8_remembers_82 ?_
    refine qm_aload_n E_X8_remembers (by rfl) dX8_remembers_83 ?_
    refine qm_get E_X8_remembers rfl 5 (by decide) q1662 (v := .ref (M.2.2.2 5)) rfl dX8_remembers_84 ?_
    refine qm_aload_n E_X8_remembers (by rfl) dX8_remembers_87 ?_
    refine qm_get E_X8_remembers rfl 23 (by decide) q1680 (v := .ref (M.2.2.2 23)) rfl dX8_remembers_88 ?_
    refine qm_iload_n E_X8_remembers (by rfl) dX8_remembers_91 ?_
    refine qm_iald E_X8_remembers 23 (by decide) rfl o9 dX8_remembers_92 ?_
    obtain ⟨o12, h⟩ := h
    refine qm_iald E_X8_remembers 5 (by decide) rfl o12 dX8_remembers_93 ?_
    obtain ⟨o13, h⟩ := h
    refine qm_iast E_X8_remembers 42 (by decide) rfl o13 dX8_remembers_94 ?_
    refine qm_aload_n E_X8_remembers (by rfl) dX8_remembers_95 ?_
    refine qm_get E_X8_remembers rfl 43 (by decide) q1700 (v := .ref (M.2.2.2 43)) rfl dX8_remembers_96 ?_
    refine qm_iload_n E_X8_remembers (by rfl) dX8_remembers_99 ?_
    refine qm_iconst E_X8_remembers (-1) (by decide) dX8_remembers_100 ?_
    obtain ⟨o14, h⟩ := h
    refine qm_iast E_X8_remembers 43 (by decide) rfl o14 dX8_remembers_101 ?_
    refine qm_aload_n E_X8_remembers (by rfl) dX8_remembers_102 ?_
    refine qm_get E_X8_remembers rfl 44 (by decide) q1701 (v := .ref (M.2.2.2 44)) rfl dX8_remembers_103 ?_
    refine qm_iload_n E_X8_remembers (by rfl) dX8_remembers_106 ?_
    refine qm_iconst E_X8_remembers (-1) (by decide) dX8_remembers_107 ?_
    obtain ⟨o15, h⟩ := h
    refine qm_iast E_X8_remembers 44 (by decide) rfl o15 dX8_remembers_108 ?_
    refine qm_aload_n E_X8_remembers (by rfl) dX8_remembers_109 ?_
    refine qm_get E_X8_remembers rfl 45 (by decide) q1702 (v := .ref (M.2.2.2 45)) rfl dX8_remembers_110 ?_
    refine qm_iload_n E_X8_remembers (by rfl) dX8_remembers_113 ?_
    refine qm_aload_n E_X8_remembers (by rfl) dX8_remembers_114 ?_
    refine qm_get E_X8_remembers rfl 57 (by decide) q1714 (v := .ref (M.2.2.2 57)) rfl dX8_remembers_115 ?_
    refine qm_iload_n E_X8_remembers (by rfl) dX8_remembers_118 ?_
    obtain ⟨o16, h⟩ := h
    refine qm_iald E_X8_remembers 57 (by decide) rfl o16 dX8_remembers_119 ?_
    obtain ⟨o17, h⟩ := h
    refine qm_iast E_X8_remembers 45 (by decide) rfl o17 dX8_remembers_120 ?_
    refine qm_iconst E_X8_remembers 0 (by decide) dX8_remembers_121 ?_
    refine qm_istore_n E_X8_remembers (by decide) dX8_remembers_122 ?_
    refine h (fun x19 S20 => qm_wp M (d + 2) I_X8_remembers 123 [some (.ref M.2.2.1), some (.int a1), some (.int (S8.1 39)), some (.int x19), none] [] S20 (fun v S' => v = none ∧ K S')) ?_
    intro x19 S20 h
    refine qm_iload_n E_X8_remembers (by rfl) dX8_remembers_123 ?_
    refine qm_aload_n E_X8_remembers (by rfl) dX8_remembers_124 ?_
    refine qm_get E_X8_remembers rfl 57 (by decide) q1714 (v := .ref (M.2.2.2 57)) rfl dX8_remembers_125 ?_
    refine qm_iload_n E_X8_remembers (by rfl) dX8_remembers_128 ?_
    refine qm_iald E_X8_remembers 57 (by decide) rfl o16 dX8_remembers_129 ?_
    refine qm_icmp_ge E_X8_remembers 161 dX8_remembers_130 (by decide) (fun (c21 : (S20.2 57 a1.toNatClampNeg) ≤ x19) => ?_) (fun (c21 : ¬ (S20.2 57 a1.toNatClampNeg) ≤ x19) => ?_)
    · have h := h.1 c21
      refine qm_iconst E_X8_remembers 0 (by decide) dX8_remembers_161 ?_
      refine qm_istore_n E_X8_remembers (by decide) dX8_remembers_162 ?_
      refine h (fun x23 S24 => qm_wp M (d + 2) I_X8_remembers 163 [some (.ref M.2.2.1), some (.int a1), some (.int (S8.1 39)), some (.int x23), none] [] S24 (fun v S' => v = none ∧ K S')) ?_
      intro x23 S24 h
      refine qm_iload_n E_X8_remembers (by rfl) dX8_remembers_163 ?_
      refine qm_aload_n E_X8_remembers (by rfl) dX8_remembers_164 ?_
      refine qm_get E_X8_remembers rfl 57 (by decide) q1714 (v := .ref (M.2.2.2 57)) rfl dX8_remembers_165 ?_
      refine qm_iload_n E_X8_remembers (by rfl) dX8_remembers_168 ?_
      refine qm_iald E_X8_remembers 57 (by decide) rfl o16 dX8_remembers_169 ?_
      refine qm_iconst E_X8_remembers 4 (by decide) dX8_remembers_170 ?_
      refine qm_imul E_X8_remembers dX8_remembers_171 ?_
      refine qm_icmp_ge E_X8_remembers 203 dX8_remembers_172 (by decide) (fun (c25 : ((S24.2 57 a1.toNatClampNeg) * 4) ≤ x23) => ?_) (fun (c25 : ¬ ((S24.2 57 a1.toNatClampNeg) * 4) ≤ x23) => ?_)
      · have h := h.1 c25
        refine qm_aload_n E_X8_remembers (by rfl) dX8_remembers_203 ?_
        refine qm_get E_X8_remembers rfl 48 (by decide) q1705 (v := .ref (M.2.2.2 48)) rfl dX8_remembers_204 ?_
        refine qm_iload_n E_X8_remembers (by rfl) dX8_remembers_207 ?_
        refine qm_iconst E_X8_remembers 0 (by decide) dX8_remembers_208 ?_
        obtain ⟨o26, h⟩ := h
        refine qm_iast E_X8_remembers 48 (by decide) rfl o26 dX8_remembers_209 ?_
        refine qm_iconst E_X8_remembers 0 (by decide) dX8_remembers_210 ?_
        refine qm_istore_n E_X8_remembers (by decide) dX8_remembers_211 ?_
        refine h (fun x28 S29 => qm_wp M (d + 2) I_X8_remembers 212 [some (.ref M.2.2.1), some (.int a1), some (.int (S8.1 39)), some (.int x28), none] [] S29 (fun v S' => v = none ∧ K S')) ?_
        intro x28 S29 h
        refine qm_iload_n E_X8_remembers (by rfl) dX8_remembers_212 ?_
        refine qm_aload_n E_X8_remembers (by rfl) dX8_remembers_213 ?_
        refine qm_get E_X8_remembers rfl 29 (by decide) q1686 (v := .int (S29.1 29)) rfl dX8_remembers_214 ?_
        refine qm_icmp_ge E_X8_remembers 296 dX8_remembers_217 (by decide) (fun (c30 : (S29.1 29) ≤ x28) => ?_) (fun (c30 : ¬ (S29.1 29) ≤ x28) => ?_)
        · have h := h.1 c30
          exact qm_vret E_X8_remembers rfl dX8_remembers_296 ⟨rfl, h⟩
        · have h := h.2 c30
          refine qm_aload_n E_X8_remembers (by rfl) dX8_remembers_220 ?_
          refine qm_iload_n E_X8_remembers (by rfl) dX8_remembers_221 ?_
          refine qm_iload_n E_X8_remembers (by rfl) dX8_remembers_222 ?_
          obtain ⟨o31, h⟩ := h
          refine qm_callV (As := [.int x28, .int a1]) (rest := []) E_X8_remembers rfl M_X8_isSent rfl q2129 q2131 qs53 rfl rfl rfl (Nat.le_of_ble_eq_true rfl) dX8_remembers_223 (C_X8_isSent (d := d) x28 a1 S29 _ o31 ?_)
          refine qm_if_eq E_X8_remembers 290 dX8_remembers_226 (by decide) (fun (c32 : (f_X8_isSent x28 a1 S29) = 0) => ?_) (fun (c32 : ¬ (f_X8_isSent x28 a1 S29) = 0) => ?_)
          · have h := h.1 c32
            refine qm_iinc E_X8_remembers 1 rfl (by decide) (by decide) dX8_remembers_290 ?_
            refine qm_goto E_X8_remembers 212 dX8_remembers_293 (by decide) ?_
            exact h
          · have h := h.2 c32
            refine qm_iconst E_X8_remembers 4 (by decide) dX8_remembers_229 ?_
            refine qm_iload_n E_X8_remembers (by rfl) dX8_remembers_230 ?_
            refine qm_imul E_X8_remembers dX8_remembers_231 ?_
            refine qm_aload_n E_X8_remembers (by rfl) dX8_remembers_232 ?_
            refine qm_get E_X8_remembers rfl 48 (by decide) q1705 (v := .ref (M.2.2.2 48)) rfl dX8_remembers_233 ?_
            refine qm_iload_n E_X8_remembers (by rfl) dX8_remembers_236 ?_
            refine qm_iald E_X8_remembers 48 (by decide) rfl o26 dX8_remembers_237 ?_
            refine qm_iadd E_X8_remembers dX8_remembers_238 ?_
            refine qm_istore E_X8_remembers (by decide) dX8_remembers_239 ?_
            refine qm_aload_n E_X8_remembers (by rfl) dX8_remembers_241 ?_
            refine qm_get E_X8_remembers rfl 49 (by decide) q1706 (v := .ref (M.2.2.2 49)) rfl dX8_remembers_242 ?_
            refine qm_iload E_X8_remembers (by rfl) dX8_remembers_245 ?_
            refine qm_aload_n E_X8_remembers (by rfl) dX8_remembers_247 ?_
            refine qm_get E_X8_remembers rfl 31 (by decide) q1688 (v := .ref (M.2.2.2 31)) rfl dX8_remembers_248 ?_
            refine qm_iload_n E_X8_remembers (by rfl) dX8_remembers_251 ?_
            obtain ⟨o33, h⟩ := h
            refine qm_iald E_X8_remembers 31 (by decide) rfl o33 dX8_remembers_252 ?_
            obtain ⟨o34, h⟩ := h
            refine qm_iast E_X8_remembers 49 (by decide) rfl o34 dX8_remembers_253 ?_
            refine qm_aload_n E_X8_remembers (by rfl) dX8_remembers_254 ?_
            refine qm_get E_X8_remembers rfl 50 (by decide) q1707 (v := .ref (M.2.2.2 50)) rfl dX8_remembers_255 ?_
            refine qm_iload E_X8_remembers (by rfl) dX8_remembers_258 ?_
            refine qm_aload_n E_X8_remembers (by rfl) dX8_remembers_260 ?_
            refine qm_get E_X8_remembers rfl 32 (by decide) q1689 (v := .ref (M.2.2.2 32)) rfl dX8_remembers_261 ?_
            refine qm_iload_n E_X8_remembers (by rfl) dX8_remembers_264 ?_
            obtain ⟨o35, h⟩ := h
            refine qm_iald E_X8_remembers 32 (by decide) rfl o35 dX8_remembers_265 ?_
            obtain ⟨o36, h⟩ := h
            refine qm_iast E_X8_remembers 50 (by decide) rfl o36 dX8_remembers_266 ?_
            refine qm_aload_n E_X8_remembers (by rfl) dX8_remembers_267 ?_
            refine qm_get E_X8_remembers rfl 51 (by decide) q1708 (v := .ref (M.2.2.2 51)) rfl dX8_remembers_268 ?_
            refine qm_iload E_X8_remembers (by rfl) dX8_remembers_271 ?_
            refine qm_aload_n E_X8_remembers (by rfl) dX8_remembers_273 ?_
            refine qm_get E_X8_remembers rfl 33 (by decide) q1690 (v := .ref (M.2.2.2 33)) rfl dX8_remembers_274 ?_
            refine qm_iload_n E_X8_remembers (by rfl) dX8_remembers_277 ?_
            obtain ⟨o37, h⟩ := h
            refine qm_iald E_X8_remembers 33 (by decide) rfl o37 dX8_remembers_278 ?_
            obtain ⟨o38, h⟩ := h
            refine qm_iast E_X8_remembers 51 (by decide) rfl o38 dX8_remembers_279 ?_
            refine qm_aload_n E_X8_remembers (by rfl) dX8_remembers_280 ?_
            refine qm_get E_X8_remembers rfl 48 (by decide) q1705 (v := .ref (M.2.2.2 48)) rfl dX8_remembers_281 ?_
            refine qm_iload_n E_X8_remembers (by rfl) dX8_remembers_284 ?_
            refine qm_dup2 E_X8_remembers rfl rfl dX8_remembers_285 ?_
            refine qm_iald E_X8_remembers 48 (by decide) rfl o26 dX8_remembers_286 ?_
            refine qm_iconst E_X8_remembers 1 (by decide) dX8_remembers_287 ?_
            refine qm_iadd E_X8_remembers dX8_remembers_288 ?_
            refine qm_iast E_X8_remembers 48 (by decide) rfl o26 dX8_remembers_289 ?_
            refine qm_iinc E_X8_remembers 1 rfl (by decide) (by decide) dX8_remembers_290 ?_
            refine qm_goto E_X8_remembers 212 dX8_remembers_293 (by decide) ?_
            refine qm_drop 4 ?_
            exact h
      · have h := h.2 c25
        refine qm_aload_n E_X8_remembers (by rfl) dX8_remembers_175 ?_
        refine qm_get E_X8_remembers rfl 47 (by decide) q1704 (v := .ref (M.2.2.2 47)) rfl dX8_remembers_176 ?_
        refine qm_bipush E_X8_remembers 48 (by decide) dX8_remembers_179 ?_
        refine qm_iload_n E_X8_remembers (by rfl) dX8_remembers_181 ?_
        refine qm_imul E_X8_remembers dX8_remembers_182 ?_
        refine qm_iload_n E_X8_remembers (by rfl) dX8_remembers_183 ?_
        refine qm_iadd E_X8_remembers dX8_remembers_184 ?_
        refine qm_aload_n E_X8_remembers (by rfl) dX8_remembers_185 ?_
        refine qm_get E_X8_remembers rfl 59 (by decide) q1716 (v := .ref (M.2.2.2 59)) rfl dX8_remembers_186 ?_
        refine qm_bipush E_X8_remembers 48 (by decide) dX8_remembers_189 ?_
        refine qm_iload_n E_X8_remembers (by rfl) dX8_remembers_191 ?_
        refine qm_imul E_X8_remembers dX8_remembers_192 ?_
        refine qm_iload_n E_X8_remembers (by rfl) dX8_remembers_193 ?_
        refine qm_iadd E_X8_remembers dX8_remembers_194 ?_
        obtain ⟨o39, h⟩ := h
        refine qm_iald E_X8_remembers 59 (by decide) rfl o39 dX8_remembers_195 ?_
        obtain ⟨o40, h⟩ := h
        refine qm_iast E_X8_remembers 47 (by decide) rfl o40 dX8_remembers_196 ?_
        refine qm_iinc E_X8_remembers 1 rfl (by decide) (by decide) dX8_remembers_197 ?_
        refine qm_goto E_X8_remembers 163 dX8_remembers_200 (by decide) ?_
        exact h
    · have h := h.2 c21
      refine qm_aload_n E_X8_remembers (by rfl) dX8_remembers_133 ?_
      refine qm_get E_X8_remembers rfl 46 (by decide) q1703 (v := .ref (M.2.2.2 46)) rfl dX8_remembers_134 ?_
      refine qm_bipush E_X8_remembers 12 (by decide) dX8_remembers_137 ?_
      refine qm_iload_n E_X8_remembers (by rfl) dX8_remembers_139 ?_
      refine qm_imul E_X8_remembers dX8_remembers_140 ?_
      refine qm_iload_n E_X8_remembers (by rfl) dX8_remembers_141 ?_
      refine qm_iadd E_X8_remembers dX8_remembers_142 ?_
      refine qm_aload_n E_X8_remembers (by rfl) dX8_remembers_143 ?_
      refine qm_get E_X8_remembers rfl 58 (by decide) q1715 (v := .ref (M.2.2.2 58)) rfl dX8_remembers_144 ?_
      refine qm_bipush E_X8_remembers 12 (by decide) dX8_remembers_147 ?_
      refine qm_iload_n E_X8_remembers (by rfl) dX8_remembers_149 ?_
      refine qm_imul E_X8_remembers dX8_remembers_150 ?_
      refine qm_iload_n E_X8_remembers (by rfl) dX8_remembers_151 ?_
      refine qm_iadd E_X8_remembers dX8_remembers_152 ?_
      obtain ⟨o41, h⟩ := h
      refine qm_iald E_X8_remembers 58 (by decide) rfl o41 dX8_remembers_153 ?_
      obtain ⟨o42, h⟩ := h
      refine qm_iast E_X8_remembers 46 (by decide) rfl o42 dX8_remembers_154 ?_
      refine qm_iinc E_X8_remembers 1 rfl (by decide) (by decide) dX8_remembers_155 ?_
      refine qm_goto E_X8_remembers 123 dX8_remembers_158 (by decide) ?_
      exact h)
  refine qm_icmp_ne E_X8_remembers 41 dX8_remembers_6 (by decide) (fun (c1 : ¬ (S.1 39) = 6) => ?_) (fun (c1 : (S.1 39) = 6) => ?_)
  · have h := h.1 c1
    exact h
  · have h := h.2 c1
    refine qm_iconst E_X8_remembers 1 (by decide) dX8_remembers_9 ?_
    refine qm_istore_n E_X8_remembers (by decide) dX8_remembers_10 ?_
    refine h (fun x3 S4 => qm_wp M (d + 2) I_X8_remembers 11 [some (.ref M.2.2.1), some (.int a1), some (.int x3), none, none] [] S4 (fun v S' => v = none ∧ K S')) ?_
    intro x3 S4 h
    refine qm_iload_n E_X8_remembers (by rfl) dX8_remembers_11 ?_
    refine qm_bipush E_X8_remembers 6 (by decide) dX8_remembers_12 ?_
    refine qm_icmp_ge E_X8_remembers 31 dX8_remembers_14 (by decide) (fun (c5 : 6 ≤ x3) => ?_) (fun (c5 : ¬ 6 ≤ x3) => ?_)
    · have h := h.1 c5
      refine qm_aload_n E_X8_remembers (by rfl) dX8_remembers_31 ?_
      refine qm_dup E_X8_remembers rfl dX8_remembers_32 ?_
      refine qm_get E_X8_remembers rfl 39 (by decide) q1696 (v := .int (S4.1 39)) rfl dX8_remembers_33 ?_
      refine qm_iconst E_X8_remembers 1 (by decide) dX8_remembers_36 ?_
      refine qm_isub E_X8_remembers dX8_remembers_37 ?_
      refine qm_put E_X8_remembers rfl 39 (by decide) q1696 rfl rfl rfl (qm_set39) dX8_remembers_38 ?_
      refine qm_drop 2 ?_
      exact h
    · have h := h.2 c5
      refine qm_aload_n E_X8_remembers (by rfl) dX8_remembers_17 ?_
      refine qm_iload_n E_X8_remembers (by rfl) dX8_remembers_18 ?_
      refine qm_iload_n E_X8_remembers (by rfl) dX8_remembers_19 ?_
      refine qm_iconst E_X8_remembers 1 (by decide) dX8_remembers_20 ?_
      refine qm_isub E_X8_remembers dX8_remembers_21 ?_
      refine qm_callV (As := [.int x3, .int (x3 - 1)]) (rest := []) E_X8_remembers rfl M_X8_moves rfl q1994 q1996 qs40 rfl rfl rfl (Nat.le_of_ble_eq_true rfl) dX8_remembers_22 (qm_C.mono ?_ (C_X8_moves (d := d + 1) x3 (x3 - 1) S4 _ h))
      rintro _ S6 ⟨rfl, h⟩
      refine qm_iinc E_X8_remembers 1 rfl (by decide) (by decide) dX8_remembers_25 ?_
      refine qm_goto E_X8_remembers 11 dX8_remembers_28 (by decide) ?_
      exact h
def I_X8_scans : qh_I := (yX8_scans, cX8_scans, 2, (Option.some Jvm.ClassFile.FieldType.boolean), [])
theorem E_X8_scans : I_X8_scans.2.1 = cX8_scans := rfl
theorem M_X8_scans : qh_M I_X8_scans 1 := ⟨by decide, by decide, by decide +kernel, q95, q2205, by decide⟩
def T_X8_scans (a1 : Int32) (S : qm_S) (K : Int32 → qm_S → Prop) : Prop := vp_in a1 (qm_len 57) ∧ vp_in a1 (qm_len 23) ∧ T_X8_requests (f_X8_storeOf (S.2 23 a1.toNatClampNeg)) ((S.1, qm_uA S.2 57 (upd (S.2 57) a1.toNatClampNeg 0))) (fun r3 S5 => (¬ r3 = 0 → T_X8_comes a1 ((-1)) 0 0 S5 (fun S7 => (¬ (S7.1 62) = 0 → (S7.1 62 = 0 ∨ S7.1 62 = 1) ∧ K (S7.1 62) S7) ∧ ((S7.1 62) = 0 → T_X8_remembers a1 S7 (fun S10 => T_X8_manySent a1 S10 (fun r11 => ((¬ r11 = 0 → vp_in (S10.2 23 a1.toNatClampNeg) (qm_len 21)) ∧ (r11 = 0 → True)) ∧ vp_in (S10.2 23 a1.toNatClampNeg) (qm_len 21) ∧ (S10.1 62 = 0 ∨ S10.1 62 = 1) ∧ K (S10.1 62) ((S10.1, qm_uA S10.2 21 (upd (S10.2 21) (S10.2 23 a1.toNatClampNeg).toNatClampNeg ((if r11 = 0 then S10.2 57 a1.toNatClampNeg else S10.2 21 (S10.2 23 a1.toNatClampNeg).toNatClampNeg)))))))))) ∧ (r3 = 0 → K 1 S5))
set_option maxHeartbeats 4000000 in
theorem C_X8_scans {M : qm_G} {d : Nat} (a1 : Int32) (S : qm_S) (K : Int32 → qm_S → Prop) (h : T_X8_scans a1 S K) : qm_C M (d + 5) I_X8_scans [.ref M.2.2.1, .int a1] S (fun v S' => ∃ r, v = some (.int r) ∧ (r = 0 ∨ r = 1) ∧ K r S') := by
  refine qm_C.of (by decide) rfl (ls := [some (.ref M.2.2.1), some (.int a1)]) rfl (Nat.le_of_ble_eq_true rfl) (qm_ct rfl) ?_
  unfold T_X8_scans at h
  refine qm_aload_n E_X8_scans (by rfl) dX8_scans_0 ?_
  refine qm_get E_X8_scans rfl 57 (by decide) q1714 (v := .ref (M.2.2.2 57)) rfl dX8_scans_1 ?_
  refine qm_iload_n E_X8_scans (by rfl) dX8_scans_4 ?_
  refine qm_iconst E_X8_scans 0 (by decide) dX8_scans_5 ?_
  obtain ⟨o1, h⟩ := h
  refine qm_iast E_X8_scans 57 (by decide) rfl o1 dX8_scans_6 ?_
  refine qm_aload_n E_X8_scans (by rfl) dX8_scans_7 ?_
  refine qm_aload_n E_X8_scans (by rfl) dX8_scans_8 ?_
  refine qm_get E_X8_scans rfl 23 (by decide) q1680 (v := .ref (M.2.2.2 23)) rfl dX8_scans_9 ?_
  refine qm_iload_n E_X8_scans (by rfl) dX8_scans_12 ?_
  obtain ⟨o2, h⟩ := h
  refine qm_iald E_X8_scans 23 (by decide) rfl o2 dX8_scans_13 ?_
  refine qm_callS (As := [.int (S.2 23 a1.toNatClampNeg)]) (rest := [.ref M.2.2.1]) E_X8_scans rfl M_X8_storeOf rfl q1964 q1965 rfl rfl (Nat.le_of_ble_eq_true rfl) dX8_scans_14 (C_X8_storeOf (d := d + 4) (S.2 23 a1.toNatClampNeg) ((S.1, qm_uA S.2 57 (upd (S.2 57) a1.toNatClampNeg 0))) _ ?_)
  refine qm_callV (As := [.int (f_X8_storeOf (S.2 23 a1.toNatClampNeg))]) (rest := []) E_X8_scans rfl M_X8_requests rfl q2178 q2180 qs63 rfl rfl rfl (Nat.le_of_ble_eq_true rfl) dX8_scans_17 (qm_C.mono ?_ (C_X8_requests (d := d) (f_X8_storeOf (S.2 23 a1.toNatClampNeg)) ((S.1, qm_uA S.2 57 (upd (S.2 57) a1.toNatClampNeg 0))) _ h))
  rintro _ S5 ⟨r3, rfl, z4, h⟩
  refine qm_if_ne E_X8_scans 25 dX8_scans_20 (by decide) (fun (c6 : ¬ r3 = 0) => ?_) (fun (c6 : r3 = 0) => ?_)
  · have h := h.1 c6
    refine qm_aload_n E_X8_scans (by rfl) dX8_scans_25 ?_
    refine qm_iload_n E_X8_scans (by rfl) dX8_scans_26 ?_
    refine qm_iconst E_X8_scans (-1) (by decide) dX8_scans_27 ?_
    refine qm_iconst E_X8_scans 0 (by decide) dX8_scans_28 ?_
    refine qm_iconst E_X8_scans 0 (by decide) dX8_scans_29 ?_
    refine qm_callV (As := [.int a1, .int ((-1)), .int 0, .int 0]) (rest := []) E_X8_scans rfl M_X8_comes rfl q2190 q2192 qs66 rfl rfl rfl (Nat.le_of_ble_eq_true rfl) dX8_scans_30 (qm_C.mono ?_ (C_X8_comes (d := d) a1 ((-1)) 0 0 S5 _ h))
    rintro _ S7 ⟨rfl, h⟩
    refine qm_aload_n E_X8_scans (by rfl) dX8_scans_33 ?_
    refine qm_get E_X8_scans rfl 62 (by decide) q1719 (v := .int (S7.1 62)) rfl dX8_scans_34 ?_
    refine qm_if_ne E_X8_scans 84 dX8_scans_37 (by decide) (fun (c8 : ¬ (S7.1 62) = 0) => ?_) (fun (c8 : (S7.1 62) = 0) => ?_)
    · have h := h.1 c8
      refine qm_aload_n E_X8_scans (by rfl) dX8_scans_84 ?_
      refine qm_get E_X8_scans rfl 62 (by decide) q1719 (v := .int (S7.1 62)) rfl dX8_scans_85 ?_
      obtain ⟨o9, h⟩ := h
      exact qm_zret E_X8_scans rfl (qm_nb o9) dX8_scans_88 ⟨_, rfl, o9, h⟩
    · have h := h.2 c8
      refine qm_aload_n E_X8_scans (by rfl) dX8_scans_40 ?_
      refine qm_iload_n E_X8_scans (by rfl) dX8_scans_41 ?_
      refine qm_callV (As := [.int a1]) (rest := []) E_X8_scans rfl M_X8_remembers rfl q2206 q2208 qs70 rfl rfl rfl (Nat.le_of_ble_eq_true rfl) dX8_scans_42 (qm_C.mono ?_ (C_X8_remembers (d := d + 2) a1 S7 _ h))
      rintro _ S10 ⟨rfl, h⟩
      refine qm_aload_n E_X8_scans (by rfl) dX8_scans_45 ?_
      refine qm_get E_X8_scans rfl 21 (by decide) q1678 (v := .ref (M.2.2.2 21)) rfl dX8_scans_46 ?_
      refine qm_aload_n E_X8_scans (by rfl) dX8_scans_49 ?_
      refine qm_get E_X8_scans rfl 23 (by decide) q1680 (v := .ref (M.2.2.2 23)) rfl dX8_scans_50 ?_
      refine qm_iload_n E_X8_scans (by rfl) dX8_scans_53 ?_
      refine qm_iald E_X8_scans 23 (by decide) rfl o2 dX8_scans_54 ?_
      refine qm_aload_n E_X8_scans (by rfl) dX8_scans_55 ?_
      refine qm_iload_n E_X8_scans (by rfl) dX8_scans_56 ?_
      refine qm_callV (As := [.int a1]) (rest := [.int (S10.2 23 a1.toNatClampNeg), .ref (M.2.2.2 21)]) E_X8_scans rfl M_X8_manySent rfl q2125 q2127 qs52 rfl rfl rfl (Nat.le_of_ble_eq_true rfl) dX8_scans_57 (qm_C.mono ?_ (C_X8_manySent (d := d + 2) a1 S10 _ h))
      rintro _ _ ⟨r11, rfl, rfl, h⟩
      obtain ⟨h9, h⟩ := h
      have Jv15 : ∀ v15 : Int32, v15 = (if r11 = 0 then S10.2 57 a1.toNatClampNeg else S10.2 21 (S10.2 23 a1.toNatClampNeg).toNatClampNeg) → qm_wp M (d + 5) I_X8_scans 83 [some (.ref M.2.2.1), some (.int a1)] [.int v15, .int (S10.2 23 a1.toNatClampNeg), .ref (M.2.2.2 21)] S10 (fun v S' => ∃ r, v = some (.int r) ∧ (r = 0 ∨ r = 1) ∧ K r S') := by
        rintro _ rfl
        obtain ⟨o16, h⟩ := h
        refine qm_iast E_X8_scans 21 (by decide) rfl o16 dX8_scans_83 ?_
        refine qm_aload_n E_X8_scans (by rfl) dX8_scans_84 ?_
        refine qm_get E_X8_scans rfl 62 (by decide) q1719 (v := .int (S10.1 62)) rfl dX8_scans_85 ?_
        obtain ⟨o17, h⟩ := h
        exact qm_zret E_X8_scans rfl (qm_nb o17) dX8_scans_88 ⟨_, rfl, o17, h⟩
      have h := h9
      refine qm_if_ne E_X8_scans 72 dX8_scans_60 (by decide) (fun (c13 : ¬ r11 = 0) => ?_) (fun (c13 : r11 = 0) => ?_)
      · have h := h.1 c13
        refine qm_aload_n E_X8_scans (by rfl) dX8_scans_72 ?_
        refine qm_get E_X8_scans rfl 21 (by decide) q1678 (v := .ref (M.2.2.2 21)) rfl dX8_scans_73 ?_
        refine qm_aload_n E_X8_scans (by rfl) dX8_scans_76 ?_
        refine qm_get E_X8_scans rfl 23 (by decide) q1680 (v := .ref (M.2.2.2 23)) rfl dX8_scans_77 ?_
        refine qm_iload_n E_X8_scans (by rfl) dX8_scans_80 ?_
        refine qm_iald E_X8_scans 23 (by decide) rfl o2 dX8_scans_81 ?_
        have o14 := h
        refine qm_iald E_X8_scans 21 (by decide) rfl o14 dX8_scans_82 ?_
        exact Jv15 (S10.2 21 (S10.2 23 a1.toNatClampNeg).toNatClampNeg) (by rw [if_neg c13])
      · have h := h.2 c13
        refine qm_aload_n E_X8_scans (by rfl) dX8_scans_63 ?_
        refine qm_get E_X8_scans rfl 57 (by decide) q1714 (v := .ref (M.2.2.2 57)) rfl dX8_scans_64 ?_
        refine qm_iload_n E_X8_scans (by rfl) dX8_scans_67 ?_
        refine qm_iald E_X8_scans 57 (by decide) rfl o1 dX8_scans_68 ?_
        refine qm_goto E_X8_scans 83 dX8_scans_69 (by decide) ?_
        exact Jv15 (S10.2 57 a1.toNatClampNeg) (by rw [if_pos c13])
  · have h := h.2 c6
    refine qm_iconst E_X8_scans 1 (by decide) dX8_scans_23 ?_
    exact qm_zret E_X8_scans rfl (qm_nb (Or.inr rfl)) dX8_scans_24 ⟨_, rfl, (Or.inr rfl), h⟩
def I_X8_binds : qh_I := (yX8_binds, cX8_binds, 8, (Option.some Jvm.ClassFile.FieldType.int), [])
theorem E_X8_binds : I_X8_binds.2.1 = cX8_binds := rfl
theorem M_X8_binds : qh_M I_X8_binds 2 := ⟨by decide, by decide, by decide +kernel, q95, q2177, by decide⟩
def T_X8_binds (a1 a2 : Int32) (S : qm_S) (K : Int32 → qm_S → Prop) : Prop := vp_in a1 (qm_len 23) ∧ vp_in (f_X8_storeOf (S.2 23 a1.toNatClampNeg)) (qm_len 18) ∧ T_X8_guess a1 S (fun r3 => vp_in (f_X8_storeOf (S.2 23 a1.toNatClampNeg)) (qm_len 19) ∧ vp_in a1 (qm_len 57) ∧ ∀ X7 : Int32 → Int32 → qm_S → Prop, (∀ (x8 x9 : Int32) (S10 : qm_S), (((S10.1 63) ≤ x9 → (x8 = 0 → K (1 + 0) S10) ∧ (¬ x8 = 0 → K (1 + 10) S10)) ∧ (¬ (S10.1 63) ≤ x9 → T_X8_requests (f_X8_storeOf (S.2 23 a1.toNatClampNeg)) S10 (fun r13 S15 => (¬ r13 = 0 → T_X8_comes a1 a2 x9 ((if (S15.1 63) ≤ (x9 + 4) then S15.1 63 else x9 + 4)) S15 (fun S19 => ((S19.1 63) ≤ ((if (S15.1 63) ≤ (x9 + 4) then S15.1 63 else x9 + 4)) → X7 ((if x8 = 0 then if (S19.1 62) = 0 then (0 : Int32) else (1 : Int32) else (1 : Int32))) (x9 + 4) S19) ∧ (¬ (S19.1 63) ≤ ((if (S15.1 63) ≤ (x9 + 4) then S15.1 63 else x9 + 4)) → ((S19.1 55) < ((S.2 18 (f_X8_storeOf (S.2 23 a1.toNatClampNeg)).toNatClampNeg) + (r3 * (S.2 19 (f_X8_storeOf (S.2 23 a1.toNatClampNeg)).toNatClampNeg))) → X7 ((if x8 = 0 then if (S19.1 62) = 0 then (0 : Int32) else (1 : Int32) else (1 : Int32))) (x9 + 4) S19) ∧ (¬ (S19.1 55) < ((S.2 18 (f_X8_storeOf (S.2 23 a1.toNatClampNeg)).toNatClampNeg) + (r3 * (S.2 19 (f_X8_storeOf (S.2 23 a1.toNatClampNeg)).toNatClampNeg))) → T_X8_scans a1 S19 (fun r25 S27 => (r25 = 0 → K (2 + 0) S27) ∧ (¬ r25 = 0 → K (2 + 10) S27)))))) ∧ (r13 = 0 → K 11 S15)))) → X7 x8 x9 S10) → X7 0 0 ((S.1, qm_uA S.2 57 (upd (S.2 57) a1.toNatClampNeg 0))))
set_option maxHeartbeats 4000000 in
theorem C_X8_binds {M : qm_G} {d : Nat} (a1 a2 : Int32) (S : qm_S) (K : Int32 → qm_S → Prop) (h : T_X8_binds a1 a2 S K) : qm_C M (d + 6) I_X8_binds [.ref M.2.2.1, .int a1, .int a2] S (fun v S' => ∃ r, v = some (.int r) ∧ K r S') := by
  refine qm_C.of (by decide) rfl (ls := [some (.ref M.2.2.1), some (.int a1), some (.int a2), none, none, none, none, none]) rfl (Nat.le_of_ble_eq_true rfl) (qm_ct rfl) ?_
  unfold T_X8_binds at h
  refine qm_aload_n E_X8_binds (by rfl) dX8_binds_0 ?_
  refine qm_get E_X8_binds rfl 23 (by decide) q1680 (v := .ref (M.2.2.2 23)) rfl dX8_binds_1 ?_
  refine qm_iload_n E_X8_binds (by rfl) dX8_binds_4 ?_
  obtain ⟨o1, h⟩ := h
  refine qm_iald E_X8_binds 23 (by decide) rfl o1 dX8_binds_5 ?_
  refine qm_callS (As := [.int (S.2 23 a1.toNatClampNeg)]) (rest := []) E_X8_binds rfl M_X8_storeOf rfl q1964 q1965 rfl rfl (Nat.le_of_ble_eq_true rfl) dX8_binds_6 (C_X8_storeOf (d := d + 5) (S.2 23 a1.toNatClampNeg) S _ ?_)
  refine qm_istore_n E_X8_binds (by decide) dX8_binds_9 ?_
  refine qm_aload_n E_X8_binds (by rfl) dX8_binds_10 ?_
  refine qm_get E_X8_binds rfl 18 (by decide) q1675 (v := .ref (M.2.2.2 18)) rfl dX8_binds_11 ?_
  refine qm_iload_n E_X8_binds (by rfl) dX8_binds_14 ?_
  obtain ⟨o2, h⟩ := h
  refine qm_iald E_X8_binds 18 (by decide) rfl o2 dX8_binds_15 ?_
  refine qm_aload_n E_X8_binds (by rfl) dX8_binds_16 ?_
  refine qm_iload_n E_X8_binds (by rfl) dX8_binds_17 ?_
  refine qm_callV (As := [.int a1]) (rest := [.int (S.2 18 (f_X8_storeOf (S.2 23 a1.toNatClampNeg)).toNatClampNeg)]) E_X8_binds rfl M_X8_guess rfl q2121 q2123 qs51 rfl rfl rfl (Nat.le_of_ble_eq_true rfl) dX8_binds_18 (qm_C.mono ?_ (C_X8_guess (d := d + 2) a1 S _ h))
  rintro _ _ ⟨r3, rfl, rfl, h⟩
  refine qm_aload_n E_X8_binds (by rfl) dX8_binds_21 ?_
  refine qm_get E_X8_binds rfl 19 (by decide) q1676 (v := .ref (M.2.2.2 19)) rfl dX8_binds_22 ?_
  refine qm_iload_n E_X8_binds (by rfl) dX8_binds_25 ?_
  obtain ⟨o5, h⟩ := h
  refine qm_iald E_X8_binds 19 (by decide) rfl o5 dX8_binds_26 ?_
  refine qm_imul E_X8_binds dX8_binds_27 ?_
  refine qm_iadd E_X8_binds dX8_binds_28 ?_
  refine qm_istore E_X8_binds (by decide) dX8_binds_29 ?_
  refine qm_iconst E_X8_binds 0 (by decide) dX8_binds_31 ?_
  refine qm_istore E_X8_binds (by decide) dX8_binds_32 ?_
  refine qm_aload_n E_X8_binds (by rfl) dX8_binds_34 ?_
  refine qm_get E_X8_binds rfl 57 (by decide) q1714 (v := .ref (M.2.2.2 57)) rfl dX8_binds_35 ?_
  refine qm_iload_n E_X8_binds (by rfl) dX8_binds_38 ?_
  refine qm_iconst E_X8_binds 0 (by decide) dX8_binds_39 ?_
  obtain ⟨o6, h⟩ := h
  refine qm_iast E_X8_binds 57 (by decide) rfl o6 dX8_binds_40 ?_
  refine qm_iconst E_X8_binds 0 (by decide) dX8_binds_41 ?_
  refine qm_istore E_X8_binds (by decide) dX8_binds_42 ?_
  refine h (fun x8 x9 S10 => qm_wp M (d + 6) I_X8_binds 44 [some (.ref M.2.2.1), some (.int a1), some (.int a2), some (.int (f_X8_storeOf (S.2 23 a1.toNatClampNeg))), some (.int ((S.2 18 (f_X8_storeOf (S.2 23 a1.toNatClampNeg)).toNatClampNeg) + (r3 * (S.2 19 (f_X8_storeOf (S.2 23 a1.toNatClampNeg)).toNatClampNeg)))), some (.int x8), some (.int x9), none] [] S10 (fun v S' => ∃ r, v = some (.int r) ∧ K r S')) ?_
  intro x8 x9 S10 h
  refine qm_iload E_X8_binds (by rfl) dX8_binds_44 ?_
  refine qm_aload_n E_X8_binds (by rfl) dX8_binds_46 ?_
  refine qm_get E_X8_binds rfl 63 (by decide) q1720 (v := .int (S10.1 63)) rfl dX8_binds_47 ?_
  refine qm_icmp_ge E_X8_binds 158 dX8_binds_50 (by decide) (fun (c11 : (S10.1 63) ≤ x9) => ?_) (fun (c11 : ¬ (S10.1 63) ≤ x9) => ?_)
  · have h := h.1 c11
    refine qm_iconst E_X8_binds 1 (by decide) dX8_binds_158 ?_
    refine qm_iload E_X8_binds (by rfl) dX8_binds_159 ?_
    refine qm_if_eq E_X8_binds 169 dX8_binds_161 (by decide) (fun (c12 : x8 = 0) => ?_) (fun (c12 : ¬ x8 = 0) => ?_)
    · have h := h.1 c12
      refine qm_iconst E_X8_binds 0 (by decide) dX8_binds_169 ?_
      refine qm_iadd E_X8_binds dX8_binds_170 ?_
      exact qm_iret E_X8_binds rfl dX8_binds_171 ⟨_, rfl, h⟩
    · have h := h.2 c12
      refine qm_bipush E_X8_binds 10 (by decide) dX8_binds_164 ?_
      refine qm_goto E_X8_binds 170 dX8_binds_166 (by decide) ?_
      refine qm_iadd E_X8_binds dX8_binds_170 ?_
      exact qm_iret E_X8_binds rfl dX8_binds_171 ⟨_, rfl, h⟩
  · have h := h.2 c11
    refine qm_aload_n E_X8_binds (by rfl) dX8_binds_53 ?_
    refine qm_iload_n E_X8_binds (by rfl) dX8_binds_54 ?_
    refine qm_callV (As := [.int (f_X8_storeOf (S.2 23 a1.toNatClampNeg))]) (rest := []) E_X8_binds rfl M_X8_requests rfl q2178 q2180 qs63 rfl rfl rfl (Nat.le_of_ble_eq_true rfl) dX8_binds_55 (qm_C.mono ?_ (C_X8_requests (d := d + 1) (f_X8_storeOf (S.2 23 a1.toNatClampNeg)) S10 _ h))
    rintro _ S15 ⟨r13, rfl, z14, h⟩
    refine qm_if_ne E_X8_binds 64 dX8_binds_58 (by decide) (fun (c16 : ¬ r13 = 0) => ?_) (fun (c16 : r13 = 0) => ?_)
    · have h := h.1 c16
      refine qm_iload E_X8_binds (by rfl) dX8_binds_64 ?_
      refine qm_iconst E_X8_binds 4 (by decide) dX8_binds_66 ?_
      refine qm_iadd E_X8_binds dX8_binds_67 ?_
      refine qm_aload_n E_X8_binds (by rfl) dX8_binds_68 ?_
      refine qm_get E_X8_binds rfl 63 (by decide) q1720 (v := .int (S15.1 63)) rfl dX8_binds_69 ?_
      have Jv18 : ∀ v18 : Int32, v18 = (if (S15.1 63) ≤ (x9 + 4) then S15.1 63 else x9 + 4) → qm_wp M (d + 6) I_X8_binds 86 [some (.ref M.2.2.1), some (.int a1), some (.int a2), some (.int (f_X8_storeOf (S.2 23 a1.toNatClampNeg))), some (.int ((S.2 18 (f_X8_storeOf (S.2 23 a1.toNatClampNeg)).toNatClampNeg) + (r3 * (S.2 19 (f_X8_storeOf (S.2 23 a1.toNatClampNeg)).toNatClampNeg)))), some (.int x8), some (.int x9), none] [.int v18] S15 (fun v S' => ∃ r, v = some (.int r) ∧ K r S') := by
        rintro _ rfl
        refine qm_istore E_X8_binds (by decide) dX8_binds_86 ?_
        refine qm_aload_n E_X8_binds (by rfl) dX8_binds_88 ?_
        refine qm_iload_n E_X8_binds (by rfl) dX8_binds_89 ?_
        refine qm_iload_n E_X8_binds (by rfl) dX8_binds_90 ?_
        refine qm_iload E_X8_binds (by rfl) dX8_binds_91 ?_
        refine qm_iload E_X8_binds (by rfl) dX8_binds_93 ?_
        refine qm_callV (As := [.int a1, .int a2, .int x9, .int ((if (S15.1 63) ≤ (x9 + 4) then S15.1 63 else x9 + 4))]) (rest := []) E_X8_binds rfl M_X8_comes rfl q2190 q2192 qs66 rfl rfl rfl (Nat.le_of_ble_eq_true rfl) dX8_binds_95 (qm_C.mono ?_ (C_X8_comes (d := d + 1) a1 a2 x9 ((if (S15.1 63) ≤ (x9 + 4) then S15.1 63 else x9 + 4)) S15 _ h))
        rintro _ S19 ⟨rfl, h⟩
        refine qm_iload E_X8_binds (by rfl) dX8_binds_98 ?_
        have Jv22 : ∀ v22 : Int32, v22 = (if x8 = 0 then if (S19.1 62) = 0 then (0 : Int32) else (1 : Int32) else (1 : Int32)) → qm_wp M (d + 6) I_X8_binds 115 [some (.ref M.2.2.1), some (.int a1), some (.int a2), some (.int (f_X8_storeOf (S.2 23 a1.toNatClampNeg))), some (.int ((S.2 18 (f_X8_storeOf (S.2 23 a1.toNatClampNeg)).toNatClampNeg) + (r3 * (S.2 19 (f_X8_storeOf (S.2 23 a1.toNatClampNeg)).toNatClampNeg)))), some (.int x8), some (.int x9), some (.int ((if (S15.1 63) ≤ (x9 + 4) then S15.1 63 else x9 + 4)))] [.int v22] S19 (fun v S' => ∃ r, v = some (.int r) ∧ K r S') := by
          rintro _ rfl
          refine qm_istore E_X8_binds (by decide) dX8_binds_115 ?_
          refine qm_iload E_X8_binds (by rfl) dX8_binds_117 ?_
          refine qm_aload_n E_X8_binds (by rfl) dX8_binds_119 ?_
          refine qm_get E_X8_binds rfl 63 (by decide) q1720 (v := .int (S19.1 63)) rfl dX8_binds_120 ?_
          refine qm_icmp_ge E_X8_binds 152 dX8_binds_123 (by decide) (fun (c23 : (S19.1 63) ≤ ((if (S15.1 63) ≤ (x9 + 4) then S15.1 63 else x9 + 4))) => ?_) (fun (c23 : ¬ (S19.1 63) ≤ ((if (S15.1 63) ≤ (x9 + 4) then S15.1 63 else x9 + 4))) => ?_)
          · have h := h.1 c23
            refine qm_iinc E_X8_binds 4 rfl (by decide) (by decide) dX8_binds_152 ?_
            refine qm_goto E_X8_binds 44 dX8_binds_155 (by decide) ?_
            refine qm_drop 7 ?_
            exact h
          · have h := h.2 c23
            refine qm_aload_n E_X8_binds (by rfl) dX8_binds_126 ?_
            refine qm_get E_X8_binds rfl 55 (by decide) q1712 (v := .int (S19.1 55)) rfl dX8_binds_127 ?_
            refine qm_iload E_X8_binds (by rfl) dX8_binds_130 ?_
            refine qm_icmp_lt E_X8_binds 152 dX8_binds_132 (by decide) (fun (c24 : (S19.1 55) < ((S.2 18 (f_X8_storeOf (S.2 23 a1.toNatClampNeg)).toNatClampNeg) + (r3 * (S.2 19 (f_X8_storeOf (S.2 23 a1.toNatClampNeg)).toNatClampNeg)))) => ?_) (fun (c24 : ¬ (S19.1 55) < ((S.2 18 (f_X8_storeOf (S.2 23 a1.toNatClampNeg)).toNatClampNeg) + (r3 * (S.2 19 (f_X8_storeOf (S.2 23 a1.toNatClampNeg)).toNatClampNeg)))) => ?_)
            · have h := h.1 c24
              refine qm_iinc E_X8_binds 4 rfl (by decide) (by decide) dX8_binds_152 ?_
              refine qm_goto E_X8_binds 44 dX8_binds_155 (by decide) ?_
              refine qm_drop 7 ?_
              exact h
            · have h := h.2 c24
              refine qm_iconst E_X8_binds 2 (by decide) dX8_binds_135 ?_
              refine qm_aload_n E_X8_binds (by rfl) dX8_binds_136 ?_
              refine qm_iload_n E_X8_binds (by rfl) dX8_binds_137 ?_
              refine qm_callV (As := [.int a1]) (rest := [.int 2]) E_X8_binds rfl M_X8_scans rfl q2202 q2204 qs69 rfl rfl rfl (Nat.le_of_ble_eq_true rfl) dX8_binds_138 (qm_C.mono ?_ (C_X8_scans (d := d) a1 S19 _ h))
              rintro _ S27 ⟨r25, rfl, z26, h⟩
              refine qm_if_eq E_X8_binds 149 dX8_binds_141 (by decide) (fun (c28 : r25 = 0) => ?_) (fun (c28 : ¬ r25 = 0) => ?_)
              · have h := h.1 c28
                refine qm_iconst E_X8_binds 0 (by decide) dX8_binds_149 ?_
                refine qm_iadd E_X8_binds dX8_binds_150 ?_
                exact qm_iret E_X8_binds rfl dX8_binds_151 ⟨_, rfl, h⟩
              · have h := h.2 c28
                refine qm_bipush E_X8_binds 10 (by decide) dX8_binds_144 ?_
                refine qm_goto E_X8_binds 150 dX8_binds_146 (by decide) ?_
                refine qm_iadd E_X8_binds dX8_binds_150 ?_
                exact qm_iret E_X8_binds rfl dX8_binds_151 ⟨_, rfl, h⟩
        refine qm_if_ne E_X8_binds 110 dX8_binds_100 (by decide) (fun (c20 : ¬ x8 = 0) => ?_) (fun (c20 : x8 = 0) => ?_)
        · refine qm_iconst E_X8_binds 1 (by decide) dX8_binds_110 ?_
          refine qm_goto E_X8_binds 115 dX8_binds_111 (by decide) ?_
          exact Jv22 ((1 : Int32)) (by rw [if_neg c20])
        · refine qm_aload_n E_X8_binds (by rfl) dX8_binds_103 ?_
          refine qm_get E_X8_binds rfl 62 (by decide) q1719 (v := .int (S19.1 62)) rfl dX8_binds_104 ?_
          refine qm_if_eq E_X8_binds 114 dX8_binds_107 (by decide) (fun (c21 : (S19.1 62) = 0) => ?_) (fun (c21 : ¬ (S19.1 62) = 0) => ?_)
          · refine qm_iconst E_X8_binds 0 (by decide) dX8_binds_114 ?_
            exact Jv22 ((0 : Int32)) (by rw [if_pos c20, if_pos c21])
          · refine qm_iconst E_X8_binds 1 (by decide) dX8_binds_110 ?_
            refine qm_goto E_X8_binds 115 dX8_binds_111 (by decide) ?_
            exact Jv22 ((1 : Int32)) (by rw [if_pos c20, if_neg c21])
      refine qm_icmp_ge E_X8_binds 82 dX8_binds_72 (by decide) (fun (c17 : (S15.1 63) ≤ (x9 + 4)) => ?_) (fun (c17 : ¬ (S15.1 63) ≤ (x9 + 4)) => ?_)
      · refine qm_aload_n E_X8_binds (by rfl) dX8_binds_82 ?_
        refine qm_get E_X8_binds rfl 63 (by decide) q1720 (v := .int (S15.1 63)) rfl dX8_binds_83 ?_
        exact Jv18 (S15.1 63) (by rw [if_pos c17])
      · refine qm_iload E_X8_binds (by rfl) dX8_binds_75 ?_
        refine qm_iconst E_X8_binds 4 (by decide) dX8_binds_77 ?_
        refine qm_iadd E_X8_binds dX8_binds_78 ?_
        refine qm_goto E_X8_binds 86 dX8_binds_79 (by decide) ?_
        exact Jv18 (x9 + 4) (by rw [if_neg c17])
    · have h := h.2 c16
      refine qm_bipush E_X8_binds 11 (by decide) dX8_binds_61 ?_
      exact qm_iret E_X8_binds rfl dX8_binds_63 ⟨_, rfl, h⟩
def I_X8_takes : qh_I := (yX8_takes, cX8_takes, 5, (Option.none : Option Jvm.ClassFile.FieldType), [])
theorem E_X8_takes : I_X8_takes.2.1 = cX8_takes := rfl
theorem M_X8_takes : qh_M I_X8_takes 1 := ⟨by decide, by decide, by decide +kernel, q95, q2139, by decide⟩
def T_X8_takes (a1 : Int32) (S : qm_S) (K : qm_S → Prop) : Prop := T_X8_entryFor a1 ((upd S.1 55 0, S.2)) (fun r1 => T_X8_linkOf a1 ((upd S.1 55 0, S.2)) (fun r3 => ∀ J37 : Int32 → qm_S → Prop, (∀ (x38 : Int32) (S39 : qm_S), (vp_in a1 (qm_len 56) ∧ vp_in (S39.1 83) (qm_len 84) ∧ K ((upd (upd S39.1 78 ((S39.1 78) ||| ((if x38 < 10 then (0 : Int32) else 1 <<< (a1 &&& 31))))) 83 ((S39.1 83) + 1), qm_uA (qm_uA S39.2 56 (upd (S39.2 56) a1.toNatClampNeg 1)) 84 (upd (S39.2 84) (S39.1 83).toNatClampNeg ((10 * a1) + (x38 - x38 / 10 * 10)))))) → J37 x38 S39) → (r1 = ((-1)) → ∀ J29 : Int32 → qm_S → Prop, (∀ (x30 : Int32) (S31 : qm_S), (vp_in a1 (qm_len 23) ∧ vp_in (S31.2 23 a1.toNatClampNeg) (qm_len 5) ∧ vp_in a1 (qm_len 60) ∧ vp_in a1 (qm_len 61) ∧ J37 x30 ((S31.1, qm_uA (qm_uA S31.2 60 (upd (S31.2 60) a1.toNatClampNeg (S31.2 5 (S31.2 23 a1.toNatClampNeg).toNatClampNeg))) 61 (upd (S31.2 61) a1.toNatClampNeg (S31.1 7))))) → J29 x30 S31) → (r3 = ((-1)) → T_X8_scans a1 ((upd S.1 55 0, S.2)) (fun r7 S9 => J29 (3 + ((if r7 = 0 then (0 : Int32) else (10 : Int32)))) S9)) ∧ (¬ r3 = ((-1)) → T_X8_canBind a1 r3 ((upd S.1 55 0, S.2)) (fun r12 S14 => (r12 = 0 → T_X8_scans a1 S14 (fun r16 S18 => J29 (3 + ((if r16 = 0 then (0 : Int32) else (10 : Int32)))) S18)) ∧ (¬ r12 = 0 → vp_in r3 (qm_len 25) ∧ ((¬ (S14.2 25 r3.toNatClampNeg) = a1 → vp_in r3 (qm_len 28)) ∧ ((S14.2 25 r3.toNatClampNeg) = a1 → vp_in r3 (qm_len 26))) ∧ T_X8_binds a1 ((if (S14.2 25 r3.toNatClampNeg) = a1 then S14.2 26 r3.toNatClampNeg else S14.2 28 r3.toNatClampNeg)) S14 (fun r26 S28 => J29 r26 S28))))) ∧ (¬ r1 = ((-1)) → T_X8_serves r1 a1 ((upd S.1 55 0, S.2)) (fun S36 => J37 0 S36))))
set_option maxHeartbeats 4000000 in
theorem C_X8_takes {M : qm_G} {d : Nat} (a1 : Int32) (S : qm_S) (K : qm_S → Prop) (h : T_X8_takes a1 S K) : qm_C M (d + 7) I_X8_takes [.ref M.2.2.1, .int a1] S (fun v S' => v = none ∧ K S') := by
  refine qm_C.of (by decide) rfl (ls := [some (.ref M.2.2.1), some (.int a1), none, none, none]) rfl (Nat.le_of_ble_eq_true rfl) (qm_ct rfl) ?_
  unfold T_X8_takes at h
  refine qm_aload_n E_X8_takes (by rfl) dX8_takes_0 ?_
  refine qm_iconst E_X8_takes 0 (by decide) dX8_takes_1 ?_
  refine qm_put E_X8_takes rfl 55 (by decide) q1712 rfl rfl rfl (qm_set55) dX8_takes_2 ?_
  refine qm_aload_n E_X8_takes (by rfl) dX8_takes_5 ?_
  refine qm_iload_n E_X8_takes (by rfl) dX8_takes_6 ?_
  refine qm_callV (As := [.int a1]) (rest := []) E_X8_takes rfl M_X8_entryFor rfl q2140 q2142 qs55 rfl rfl rfl (Nat.le_of_ble_eq_true rfl) dX8_takes_7 (qm_C.mono ?_ (C_X8_entryFor (d := d + 3) a1 ((upd S.1 55 0, S.2)) _ h))
  rintro _ _ ⟨r1, rfl, rfl, h⟩
  refine qm_istore_n E_X8_takes (by decide) dX8_takes_10 ?_
  refine qm_aload_n E_X8_takes (by rfl) dX8_takes_11 ?_
  refine qm_iload_n E_X8_takes (by rfl) dX8_takes_12 ?_
  refine qm_callV (As := [.int a1]) (rest := []) E_X8_takes rfl M_X8_linkOf rfl q2117 q2119 qs50 rfl rfl rfl (Nat.le_of_ble_eq_true rfl) dX8_takes_13 (qm_C.mono ?_ (C_X8_linkOf (d := d + 6) a1 ((upd S.1 55 0, S.2)) _ h))
  rintro _ _ ⟨r3, rfl, rfl, h⟩
  refine qm_istore_n E_X8_takes (by decide) dX8_takes_16 ?_
  refine qm_iconst E_X8_takes 0 (by decide) dX8_takes_17 ?_
  refine qm_istore E_X8_takes (by decide) dX8_takes_18 ?_
  refine qm_iload_n E_X8_takes (by rfl) dX8_takes_20 ?_
  refine qm_iconst E_X8_takes (-1) (by decide) dX8_takes_21 ?_
  have h := h (fun x38 S39 => qm_wp M (d + 7) I_X8_takes 128 [some (.ref M.2.2.1), some (.int a1), some (.int r1), some (.int r3), some (.int x38)] [] S39 (fun v S' => v = none ∧ K S')) (by
    intro x38 S39 h
    refine qm_aload_n E_X8_takes (by rfl) dX8_takes_128 ?_
    refine qm_get E_X8_takes rfl 56 (by decide) q1713 (v := .ref (M.2.2.2 56)) rfl dX8_takes_129 ?_
    refine qm_iload_n E_X8_takes (by rfl) dX8_takes_132 ?_
    refine qm_iconst E_X8_takes 1 (by decide) dX8_takes_133 ?_
    obtain ⟨o40, h⟩ := h
    refine qm_zast E_X8_takes 56 (by decide) rfl (qm_vb (Or.inr rfl)) o40 dX8_takes_134 ?_
    refine qm_aload_n E_X8_takes (by rfl) dX8_takes_135 ?_
    refine qm_dup E_X8_takes rfl dX8_takes_136 ?_
    refine qm_get E_X8_takes rfl 78 (by decide) q1735 (v := .int (S39.1 78)) rfl dX8_takes_137 ?_
    refine qm_iload E_X8_takes (by rfl) dX8_takes_140 ?_
    refine qm_bipush E_X8_takes 10 (by decide) dX8_takes_142 ?_
    have Jv42 : ∀ v42 : Int32, v42 = (if x38 < 10 then (0 : Int32) else 1 <<< (a1 &&& 31)) → qm_wp M (d + 7) I_X8_takes 154 [some (.ref M.2.2.1), some (.int a1), some (.int r1), some (.int r3), some (.int x38)] [.int v42, .int (S39.1 78), .ref M.2.2.1] (S39.1, qm_uA S39.2 56 (upd (S39.2 56) a1.toNatClampNeg 1)) (fun v S' => v = none ∧ K S') := by
      rintro _ rfl
      refine qm_ior E_X8_takes dX8_takes_154 ?_
      refine qm_put E_X8_takes rfl 78 (by decide) q1735 rfl rfl rfl (qm_set78) dX8_takes_155 ?_
      refine qm_aload_n E_X8_takes (by rfl) dX8_takes_158 ?_
      refine qm_get E_X8_takes rfl 84 (by decide) q1741 (v := .ref (M.2.2.2 84)) rfl dX8_takes_159 ?_
      refine qm_aload_n E_X8_takes (by rfl) dX8_takes_162 ?_
      refine qm_get E_X8_takes rfl 83 (by decide) q1740 (v := .int (S39.1 83)) rfl dX8_takes_163 ?_
      refine qm_bipush E_X8_takes 10 (by decide) dX8_takes_166 ?_
      refine qm_iload_n E_X8_takes (by rfl) dX8_takes_168 ?_
      refine qm_imul E_X8_takes dX8_takes_169 ?_
      refine qm_iload E_X8_takes (by rfl) dX8_takes_170 ?_
      refine qm_bipush E_X8_takes 10 (by decide) dX8_takes_172 ?_
      refine qm_irem E_X8_takes (by decide) dX8_takes_174 ?_
      refine qm_iadd E_X8_takes dX8_takes_175 ?_
      obtain ⟨o43, h⟩ := h
      refine qm_iast E_X8_takes 84 (by decide) rfl o43 dX8_takes_176 ?_
      refine qm_aload_n E_X8_takes (by rfl) dX8_takes_177 ?_
      refine qm_dup E_X8_takes rfl dX8_takes_178 ?_
      refine qm_get E_X8_takes rfl 83 (by decide) q1740 (v := .int (S39.1 83)) rfl dX8_takes_179 ?_
      refine qm_iconst E_X8_takes 1 (by decide) dX8_takes_182 ?_
      refine qm_iadd E_X8_takes dX8_takes_183 ?_
      refine qm_put E_X8_takes rfl 83 (by decide) q1740 rfl rfl rfl (qm_set83) dX8_takes_184 ?_
      exact qm_vret E_X8_takes rfl dX8_takes_187 ⟨rfl, h⟩
    refine qm_icmp_lt E_X8_takes 153 dX8_takes_144 (by decide) (fun (c41 : x38 < 10) => ?_) (fun (c41 : ¬ x38 < 10) => ?_)
    · refine qm_iconst E_X8_takes 0 (by decide) dX8_takes_153 ?_
      exact Jv42 ((0 : Int32)) (by rw [if_pos c41])
    · refine qm_iconst E_X8_takes 1 (by decide) dX8_takes_147 ?_
      refine qm_iload_n E_X8_takes (by rfl) dX8_takes_148 ?_
      refine qm_ishl E_X8_takes dX8_takes_149 ?_
      refine qm_goto E_X8_takes 154 dX8_takes_150 (by decide) ?_
      exact Jv42 (1 <<< (a1 &&& 31)) (by rw [if_neg c41]))
  refine qm_icmp_eq E_X8_takes 34 dX8_takes_22 (by decide) (fun (c5 : r1 = ((-1))) => ?_) (fun (c5 : ¬ r1 = ((-1))) => ?_)
  · have h := h.1 c5
    refine qm_iload_n E_X8_takes (by rfl) dX8_takes_34 ?_
    refine qm_iconst E_X8_takes (-1) (by decide) dX8_takes_35 ?_
    have h := h (fun x30 S31 => qm_wp M (d + 7) I_X8_takes 101 [some (.ref M.2.2.1), some (.int a1), some (.int r1), some (.int r3), some (.int x30)] [] S31 (fun v S' => v = none ∧ K S')) (by
      intro x30 S31 h
      refine qm_aload_n E_X8_takes (by rfl) dX8_takes_101 ?_
      refine qm_get E_X8_takes rfl 60 (by decide) q1717 (v := .ref (M.2.2.2 60)) rfl dX8_takes_102 ?_
      refine qm_iload_n E_X8_takes (by rfl) dX8_takes_105 ?_
      refine qm_aload_n E_X8_takes (by rfl) dX8_takes_106 ?_
      refine qm_get E_X8_takes rfl 5 (by decide) q1662 (v := .ref (M.2.2.2 5)) rfl dX8_takes_107 ?_
      refine qm_aload_n E_X8_takes (by rfl) dX8_takes_110 ?_
      refine qm_get E_X8_takes rfl 23 (by decide) q1680 (v := .ref (M.2.2.2 23)) rfl dX8_takes_111 ?_
      refine qm_iload_n E_X8_takes (by rfl) dX8_takes_114 ?_
      obtain ⟨o32, h⟩ := h
      refine qm_iald E_X8_takes 23 (by decide) rfl o32 dX8_takes_115 ?_
      obtain ⟨o33, h⟩ := h
      refine qm_iald E_X8_takes 5 (by decide) rfl o33 dX8_takes_116 ?_
      obtain ⟨o34, h⟩ := h
      refine qm_iast E_X8_takes 60 (by decide) rfl o34 dX8_takes_117 ?_
      refine qm_aload_n E_X8_takes (by rfl) dX8_takes_118 ?_
      refine qm_get E_X8_takes rfl 61 (by decide) q1718 (v := .ref (M.2.2.2 61)) rfl dX8_takes_119 ?_
      refine qm_iload_n E_X8_takes (by rfl) dX8_takes_122 ?_
      refine qm_aload_n E_X8_takes (by rfl) dX8_takes_123 ?_
      refine qm_get E_X8_takes rfl 7 (by decide) q1664 (v := .int (S31.1 7)) rfl dX8_takes_124 ?_
      obtain ⟨o35, h⟩ := h
      refine qm_iast E_X8_takes 61 (by decide) rfl o35 dX8_takes_127 ?_
      exact h)
    refine qm_icmp_eq E_X8_takes 83 dX8_takes_36 (by decide) (fun (c6 : r3 = ((-1))) => ?_) (fun (c6 : ¬ r3 = ((-1))) => ?_)
    · have h := h.1 c6
      refine qm_iconst E_X8_takes 3 (by decide) dX8_takes_83 ?_
      refine qm_aload_n E_X8_takes (by rfl) dX8_takes_84 ?_
      refine qm_iload_n E_X8_takes (by rfl) dX8_takes_85 ?_
      refine qm_callV (As := [.int a1]) (rest := [.int 3]) E_X8_takes rfl M_X8_scans rfl q2202 q2204 qs69 rfl rfl rfl (Nat.le_of_ble_eq_true rfl) dX8_takes_86 (qm_C.mono ?_ (C_X8_scans (d := d + 1) a1 ((upd S.1 55 0, S.2)) _ h))
      rintro _ S9 ⟨r7, rfl, z8, h⟩
      have Jv11 : ∀ v11 : Int32, v11 = (if r7 = 0 then (0 : Int32) else (10 : Int32)) → qm_wp M (d + 7) I_X8_takes 98 [some (.ref M.2.2.1), some (.int a1), some (.int r1), some (.int r3), some (.int 0)] [.int v11, .int 3] S9 (fun v S' => v = none ∧ K S') := by
        rintro _ rfl
        refine qm_iadd E_X8_takes dX8_takes_98 ?_
        refine qm_istore E_X8_takes (by decide) dX8_takes_99 ?_
        exact h
      refine qm_if_eq E_X8_takes 97 dX8_takes_89 (by decide) (fun (c10 : r7 = 0) => ?_) (fun (c10 : ¬ r7 = 0) => ?_)
      · refine qm_iconst E_X8_takes 0 (by decide) dX8_takes_97 ?_
        exact Jv11 ((0 : Int32)) (by rw [if_pos c10])
      · refine qm_bipush E_X8_takes 10 (by decide) dX8_takes_92 ?_
        refine qm_goto E_X8_takes 98 dX8_takes_94 (by decide) ?_
        exact Jv11 ((10 : Int32)) (by rw [if_neg c10])
    · have h := h.2 c6
      refine qm_aload_n E_X8_takes (by rfl) dX8_takes_39 ?_
      refine qm_iload_n E_X8_takes (by rfl) dX8_takes_40 ?_
      refine qm_iload_n E_X8_takes (by rfl) dX8_takes_41 ?_
      refine qm_callV (As := [.int a1, .int r3]) (rest := []) E_X8_takes rfl M_X8_canBind rfl q2155 q2157 qs58 rfl rfl rfl (Nat.le_of_ble_eq_true rfl) dX8_takes_42 (qm_C.mono ?_ (C_X8_canBind (d := d + 1) a1 r3 ((upd S.1 55 0, S.2)) _ h))
      rintro _ S14 ⟨r12, rfl, z13, h⟩
      refine qm_if_eq E_X8_takes 83 dX8_takes_45 (by decide) (fun (c15 : r12 = 0) => ?_) (fun (c15 : ¬ r12 = 0) => ?_)
      · have h := h.1 c15
        refine qm_iconst E_X8_takes 3 (by decide) dX8_takes_83 ?_
        refine qm_aload_n E_X8_takes (by rfl) dX8_takes_84 ?_
        refine qm_iload_n E_X8_takes (by rfl) dX8_takes_85 ?_
        refine qm_callV (As := [.int a1]) (rest := [.int 3]) E_X8_takes rfl M_X8_scans rfl q2202 q2204 qs69 rfl rfl rfl (Nat.le_of_ble_eq_true rfl) dX8_takes_86 (qm_C.mono ?_ (C_X8_scans (d := d + 1) a1 S14 _ h))
        rintro _ S18 ⟨r16, rfl, z17, h⟩
        have Jv20 : ∀ v20 : Int32, v20 = (if r16 = 0 then (0 : Int32) else (10 : Int32)) → qm_wp M (d + 7) I_X8_takes 98 [some (.ref M.2.2.1), some (.int a1), some (.int r1), some (.int r3), some (.int 0)] [.int v20, .int 3] S18 (fun v S' => v = none ∧ K S') := by
          rintro _ rfl
          refine qm_iadd E_X8_takes dX8_takes_98 ?_
          refine qm_istore E_X8_takes (by decide) dX8_takes_99 ?_
          exact h
        refine qm_if_eq E_X8_takes 97 dX8_takes_89 (by decide) (fun (c19 : r16 = 0) => ?_) (fun (c19 : ¬ r16 = 0) => ?_)
        · refine qm_iconst E_X8_takes 0 (by decide) dX8_takes_97 ?_
          exact Jv20 ((0 : Int32)) (by rw [if_pos c19])
        · refine qm_bipush E_X8_takes 10 (by decide) dX8_takes_92 ?_
          refine qm_goto E_X8_takes 98 dX8_takes_94 (by decide) ?_
          exact Jv20 ((10 : Int32)) (by rw [if_neg c19])
      · have h := h.2 c15
        refine qm_aload_n E_X8_takes (by rfl) dX8_takes_48 ?_
        refine qm_iload_n E_X8_takes (by rfl) dX8_takes_49 ?_
        refine qm_aload_n E_X8_takes (by rfl) dX8_takes_50 ?_
        refine qm_get E_X8_takes rfl 25 (by decide) q1682 (v := .ref (M.2.2.2 25)) rfl dX8_takes_51 ?_
        refine qm_iload_n E_X8_takes (by rfl) dX8_takes_54 ?_
        obtain ⟨o21, h⟩ := h
        refine qm_iald E_X8_takes 25 (by decide) rfl o21 dX8_takes_55 ?_
        refine qm_iload_n E_X8_takes (by rfl) dX8_takes_56 ?_
        obtain ⟨h9, h⟩ := h
        have Jv25 : ∀ v25 : Int32, v25 = (if (S14.2 25 r3.toNatClampNeg) = a1 then S14.2 26 r3.toNatClampNeg else S14.2 28 r3.toNatClampNeg) → qm_wp M (d + 7) I_X8_takes 75 [some (.ref M.2.2.1), some (.int a1), some (.int r1), some (.int r3), some (.int 0)] [.int v25, .int a1, .ref M.2.2.1] S14 (fun v S' => v = none ∧ K S') := by
          rintro _ rfl
          refine qm_callV (As := [.int a1, .int ((if (S14.2 25 r3.toNatClampNeg) = a1 then S14.2 26 r3.toNatClampNeg else S14.2 28 r3.toNatClampNeg))]) (rest := []) E_X8_takes rfl M_X8_binds rfl q2174 q2176 qs62 rfl rfl rfl (Nat.le_of_ble_eq_true rfl) dX8_takes_75 (qm_C.mono ?_ (C_X8_binds (d := d) a1 ((if (S14.2 25 r3.toNatClampNeg) = a1 then S14.2 26 r3.toNatClampNeg else S14.2 28 r3.toNatClampNeg)) S14 _ h))
          rintro _ S28 ⟨r26, rfl, h⟩
          refine qm_istore E_X8_takes (by decide) dX8_takes_78 ?_
          refine qm_goto E_X8_takes 101 dX8_takes_80 (by decide) ?_
          exact h
        have h := h9
        refine qm_icmp_ne E_X8_takes 69 dX8_takes_57 (by decide) (fun (c22 : ¬ (S14.2 25 r3.toNatClampNeg) = a1) => ?_) (fun (c22 : (S14.2 25 r3.toNatClampNeg) = a1) => ?_)
        · have h := h.1 c22
          refine qm_aload_n E_X8_takes (by rfl) dX8_takes_69 ?_
          refine qm_get E_X8_takes rfl 28 (by decide) q1685 (v := .ref (M.2.2.2 28)) rfl dX8_takes_70 ?_
          refine qm_iload_n E_X8_takes (by rfl) dX8_takes_73 ?_
          have o23 := h
          refine qm_iald E_X8_takes 28 (by decide) rfl o23 dX8_takes_74 ?_
          exact Jv25 (S14.2 28 r3.toNatClampNeg) (by rw [if_neg c22])
        · have h := h.2 c22
          refine qm_aload_n E_X8_takes (by rfl) dX8_takes_60 ?_
          refine qm_get E_X8_takes rfl 26 (by decide) q1683 (v := .ref (M.2.2.2 26)) rfl dX8_takes_61 ?_
          refine qm_iload_n E_X8_takes (by rfl) dX8_takes_64 ?_
          have o24 := h
          refine qm_iald E_X8_takes 26 (by decide) rfl o24 dX8_takes_65 ?_
          refine qm_goto E_X8_takes 75 dX8_takes_66 (by decide) ?_
          exact Jv25 (S14.2 26 r3.toNatClampNeg) (by rw [if_pos c22])
  · have h := h.2 c5
    refine qm_aload_n E_X8_takes (by rfl) dX8_takes_25 ?_
    refine qm_iload_n E_X8_takes (by rfl) dX8_takes_26 ?_
    refine qm_iload_n E_X8_takes (by rfl) dX8_takes_27 ?_
    refine qm_callV (As := [.int r1, .int a1]) (rest := []) E_X8_takes rfl M_X8_serves rfl q2151 q2153 qs57 rfl rfl rfl (Nat.le_of_ble_eq_true rfl) dX8_takes_28 (qm_C.mono ?_ (C_X8_serves (d := d + 6) r1 a1 ((upd S.1 55 0, S.2)) _ h))
    rintro _ S36 ⟨rfl, h⟩
    refine qm_goto E_X8_takes 128 dX8_takes_31 (by decide) ?_
    exact h
def I_X8_laysRow : qh_I := (yX8_laysRow, cX8_laysRow, 7, (Option.none : Option Jvm.ClassFile.FieldType), [])
theorem E_X8_laysRow : I_X8_laysRow.2.1 = cX8_laysRow := rfl
theorem M_X8_laysRow : qh_M I_X8_laysRow 3 := ⟨by decide, by decide, by decide +kernel, q95, q2217, by decide⟩
def T_X8_laysRow (a1 a2 a3 : Int32) (S : qm_S) (K : qm_S → Prop) : Prop := vp_in a1 (qm_len 65) ∧ ∀ X2 : Int32 → qm_S → Prop, (∀ (x3 : Int32) (S4 : qm_S), ((4 ≤ x3 → ∀ X6 : Int32 → Int32 → Prop, (∀ (x7 x8 : Int32), (((S4.1 29) ≤ x8 → K ((S4.1, qm_uA S4.2 65 (upd (S4.2 65) a1.toNatClampNeg ((S4.2 65 a1.toNatClampNeg) + ((if x7 = 0 then (0 : Int32) else (1 : Int32)))))))) ∧ (¬ (S4.1 29) ≤ x8 → (x7 = 0 → X6 0 (x8 + 1)) ∧ (¬ x7 = 0 → vp_in x8 (qm_len 30) ∧ (¬ (S4.2 30 x8.toNatClampNeg) = a1 → X6 1 (x8 + 1)) ∧ ((S4.2 30 x8.toNatClampNeg) = a1 → vp_in x8 (qm_len 32) ∧ vp_in x8 (qm_len 33) ∧ vp_in x8 (qm_len 31) ∧ vp_in ((4 * ((12 * a1) + (S.2 65 a1.toNatClampNeg))) + (S4.2 31 x8.toNatClampNeg)) (qm_len 66) ∧ ((f_X8_holds (S4.2 32 x8.toNatClampNeg) (S4.2 33 x8.toNatClampNeg) (S4.2 66 ((4 * ((12 * a1) + (S.2 65 a1.toNatClampNeg))) + (S4.2 31 x8.toNatClampNeg)).toNatClampNeg)) = 0 → X6 0 (x8 + 1)) ∧ (¬ (f_X8_holds (S4.2 32 x8.toNatClampNeg) (S4.2 33 x8.toNatClampNeg) (S4.2 66 ((4 * ((12 * a1) + (S.2 65 a1.toNatClampNeg))) + (S4.2 31 x8.toNatClampNeg)).toNatClampNeg)) = 0 → X6 1 (x8 + 1)))))) → X6 x7 x8) → X6 1 0) ∧ (¬ 4 ≤ x3 → ((a2 = 0 → vp_in a1 (qm_len 23) ∧ vp_in ((4 * ((12 * (S4.2 23 a1.toNatClampNeg)) + a3)) + x3) (qm_len 3)) ∧ (¬ a2 = 0 → vp_in ((4 * ((12 * a1) + a3)) + x3) (qm_len 59))) ∧ vp_in ((4 * ((12 * a1) + (S.2 65 a1.toNatClampNeg))) + x3) (qm_len 66) ∧ X2 (x3 + 1) ((S4.1, qm_uA S4.2 66 (upd (S4.2 66) ((4 * ((12 * a1) + (S.2 65 a1.toNatClampNeg))) + x3).toNatClampNeg ((if a2 = 0 then S4.2 3 ((4 * ((12 * (S4.2 23 a1.toNatClampNeg)) + a3)) + x3).toNatClampNeg else S4.2 59 ((4 * ((12 * a1) + a3)) + x3).toNatClampNeg))))))) → X2 x3 S4) → X2 0 S
set_option maxHeartbeats 4000000 in
theorem C_X8_laysRow {M : qm_G} {d : Nat} (a1 a2 a3 : Int32) (S : qm_S) (K : qm_S → Prop) (h : T_X8_laysRow a1 a2 a3 S K) : qm_C M (d + 3) I_X8_laysRow [.ref M.2.2.1, .int a1, .int a2, .int a3] S (fun v S' => v = none ∧ K S') := by
  refine qm_C.of (by decide) rfl (ls := [some (.ref M.2.2.1), some (.int a1), some (.int a2), some (.int a3), none, none, none]) rfl (Nat.le_of_ble_eq_true rfl) (qm_ct rfl) ?_
  unfold T_X8_laysRow at h
  refine qm_iconst E_X8_laysRow 4 (by decide) dX8_laysRow_0 ?_
  refine qm_bipush E_X8_laysRow 12 (by decide) dX8_laysRow_1 ?_
  refine qm_iload_n E_X8_laysRow (by rfl) dX8_laysRow_3 ?_
  refine qm_imul E_X8_laysRow dX8_laysRow_4 ?_
  refine qm_aload_n E_X8_laysRow (by rfl) dX8_laysRow_5 ?_
  refine qm_get E_X8_laysRow rfl 65 (by decide) q1722 (v := .ref (M.2.2.2 65)) rfl dX8_laysRow_6 ?_
  refine qm_iload_n E_X8_laysRow (by rfl) dX8_laysRow_9 ?_
  obtain ⟨o1, h⟩ := h
  refine qm_iald E_X8_laysRow 65 (by decide) rfl o1 dX8_laysRow_10 ?_
  refine qm_iadd E_X8_laysRow dX8_laysRow_11 ?_
  refine qm_imul E_X8_laysRow dX8_laysRow_12 ?_
  refine qm_istore E_X8_laysRow (by decide) dX8_laysRow_13 ?_
  refine qm_iconst E_X8_laysRow 0 (by decide) dX8_laysRow_15 ?_
  refine qm_istore E_X8_laysRow (by decide) dX8_laysRow_16 ?_
  refine h (fun x3 S4 => qm_wp M (d + 3) I_X8_laysRow 18 [some (.ref M.2.2.1), some (.int a1), some (.int a2), some (.int a3), some (.int (4 * ((12 * a1) + (S.2 65 a1.toNatClampNeg)))), some (.int x3), none] [] S4 (fun v S' => v = none ∧ K S')) ?_
  intro x3 S4 h
  refine qm_iload E_X8_laysRow (by rfl) dX8_laysRow_18 ?_
  refine qm_iconst E_X8_laysRow 4 (by decide) dX8_laysRow_20 ?_
  refine qm_icmp_ge E_X8_laysRow 84 dX8_laysRow_21 (by decide) (fun (c5 : 4 ≤ x3) => ?_) (fun (c5 : ¬ 4 ≤ x3) => ?_)
  · have h := h.1 c5
    refine qm_iconst E_X8_laysRow 1 (by decide) dX8_laysRow_84 ?_
    refine qm_istore E_X8_laysRow (by decide) dX8_laysRow_85 ?_
    refine qm_iconst E_X8_laysRow 0 (by decide) dX8_laysRow_87 ?_
    refine qm_istore E_X8_laysRow (by decide) dX8_laysRow_88 ?_
    refine h (fun x7 x8 => qm_wp M (d + 3) I_X8_laysRow 90 [some (.ref M.2.2.1), some (.int a1), some (.int a2), some (.int a3), some (.int (4 * ((12 * a1) + (S.2 65 a1.toNatClampNeg)))), some (.int x7), some (.int x8)] [] S4 (fun v S' => v = none ∧ K S')) ?_
    intro x7 x8 h
    refine qm_iload E_X8_laysRow (by rfl) dX8_laysRow_90 ?_
    refine qm_aload_n E_X8_laysRow (by rfl) dX8_laysRow_92 ?_
    refine qm_get E_X8_laysRow rfl 29 (by decide) q1686 (v := .int (S4.1 29)) rfl dX8_laysRow_93 ?_
    refine qm_icmp_ge E_X8_laysRow 163 dX8_laysRow_96 (by decide) (fun (c9 : (S4.1 29) ≤ x8) => ?_) (fun (c9 : ¬ (S4.1 29) ≤ x8) => ?_)
    · have h := h.1 c9
      refine qm_aload_n E_X8_laysRow (by rfl) dX8_laysRow_163 ?_
      refine qm_get E_X8_laysRow rfl 65 (by decide) q1722 (v := .ref (M.2.2.2 65)) rfl dX8_laysRow_164 ?_
      refine qm_iload_n E_X8_laysRow (by rfl) dX8_laysRow_167 ?_
      refine qm_dup2 E_X8_laysRow rfl rfl dX8_laysRow_168 ?_
      refine qm_iald E_X8_laysRow 65 (by decide) rfl o1 dX8_laysRow_169 ?_
      refine qm_iload E_X8_laysRow (by rfl) dX8_laysRow_170 ?_
      have Jv11 : ∀ v11 : Int32, v11 = (if x7 = 0 then (0 : Int32) else (1 : Int32)) → qm_wp M (d + 3) I_X8_laysRow 180 [some (.ref M.2.2.1), some (.int a1), some (.int a2), some (.int a3), some (.int (4 * ((12 * a1) + (S.2 65 a1.toNatClampNeg)))), some (.int x7), some (.int x8)] [.int v11, .int (S4.2 65 a1.toNatClampNeg), .int a1, .ref (M.2.2.2 65)] S4 (fun v S' => v = none ∧ K S') := by
        rintro _ rfl
        refine qm_iadd E_X8_laysRow dX8_laysRow_180 ?_
        refine qm_iast E_X8_laysRow 65 (by decide) rfl o1 dX8_laysRow_181 ?_
        exact qm_vret E_X8_laysRow rfl dX8_laysRow_182 ⟨rfl, h⟩
      refine qm_if_eq E_X8_laysRow 179 dX8_laysRow_172 (by decide) (fun (c10 : x7 = 0) => ?_) (fun (c10 : ¬ x7 = 0) => ?_)
      · refine qm_iconst E_X8_laysRow 0 (by decide) dX8_laysRow_179 ?_
        exact Jv11 ((0 : Int32)) (by rw [if_pos c10])
      · refine qm_iconst E_X8_laysRow 1 (by decide) dX8_laysRow_175 ?_
        refine qm_goto E_X8_laysRow 180 dX8_laysRow_176 (by decide) ?_
        exact Jv11 ((1 : Int32)) (by rw [if_neg c10])
    · have h := h.2 c9
      refine qm_iload E_X8_laysRow (by rfl) dX8_laysRow_99 ?_
      refine qm_if_eq E_X8_laysRow 154 dX8_laysRow_101 (by decide) (fun (c12 : x7 = 0) => ?_) (fun (c12 : ¬ x7 = 0) => ?_)
      · have h := h.1 c12
        refine qm_iconst E_X8_laysRow 0 (by decide) dX8_laysRow_154 ?_
        refine qm_istore E_X8_laysRow (by decide) dX8_laysRow_155 ?_
        refine qm_iinc E_X8_laysRow 1 rfl (by decide) (by decide) dX8_laysRow_157 ?_
        refine qm_goto E_X8_laysRow 90 dX8_laysRow_160 (by decide) ?_
        exact h
      · have h := h.2 c12
        refine qm_aload_n E_X8_laysRow (by rfl) dX8_laysRow_104 ?_
        refine qm_get E_X8_laysRow rfl 30 (by decide) q1687 (v := .ref (M.2.2.2 30)) rfl dX8_laysRow_105 ?_
        refine qm_iload E_X8_laysRow (by rfl) dX8_laysRow_108 ?_
        obtain ⟨o13, h⟩ := h
        refine qm_iald E_X8_laysRow 30 (by decide) rfl o13 dX8_laysRow_110 ?_
        refine qm_iload_n E_X8_laysRow (by rfl) dX8_laysRow_111 ?_
        refine qm_icmp_ne E_X8_laysRow 150 dX8_laysRow_112 (by decide) (fun (c14 : ¬ (S4.2 30 x8.toNatClampNeg) = a1) => ?_) (fun (c14 : (S4.2 30 x8.toNatClampNeg) = a1) => ?_)
        · have h := h.1 c14
          refine qm_iconst E_X8_laysRow 1 (by decide) dX8_laysRow_150 ?_
          refine qm_goto E_X8_laysRow 155 dX8_laysRow_151 (by decide) ?_
          refine qm_istore E_X8_laysRow (by decide) dX8_laysRow_155 ?_
          refine qm_iinc E_X8_laysRow 1 rfl (by decide) (by decide) dX8_laysRow_157 ?_
          refine qm_goto E_X8_laysRow 90 dX8_laysRow_160 (by decide) ?_
          exact h
        · have h := h.2 c14
          refine qm_aload_n E_X8_laysRow (by rfl) dX8_laysRow_115 ?_
          refine qm_get E_X8_laysRow rfl 32 (by decide) q1689 (v := .ref (M.2.2.2 32)) rfl dX8_laysRow_116 ?_
          refine qm_iload E_X8_laysRow (by rfl) dX8_laysRow_119 ?_
          obtain ⟨o15, h⟩ := h
          refine qm_iald E_X8_laysRow 32 (by decide) rfl o15 dX8_laysRow_121 ?_
          refine qm_aload_n E_X8_laysRow (by rfl) dX8_laysRow_122 ?_
          refine qm_get E_X8_laysRow rfl 33 (by decide) q1690 (v := .ref (M.2.2.2 33)) rfl dX8_laysRow_123 ?_
          refine qm_iload E_X8_laysRow (by rfl) dX8_laysRow_126 ?_
          obtain ⟨o16, h⟩ := h
          refine qm_iald E_X8_laysRow 33 (by decide) rfl o16 dX8_laysRow_128 ?_
          refine qm_aload_n E_X8_laysRow (by rfl) dX8_laysRow_129 ?_
          refine qm_get E_X8_laysRow rfl 66 (by decide) q1723 (v := .ref (M.2.2.2 66)) rfl dX8_laysRow_130 ?_
          refine qm_iload E_X8_laysRow (by rfl) dX8_laysRow_133 ?_
          refine qm_aload_n E_X8_laysRow (by rfl) dX8_laysRow_135 ?_
          refine qm_get E_X8_laysRow rfl 31 (by decide) q1688 (v := .ref (M.2.2.2 31)) rfl dX8_laysRow_136 ?_
          refine qm_iload E_X8_laysRow (by rfl) dX8_laysRow_139 ?_
          obtain ⟨o17, h⟩ := h
          refine qm_iald E_X8_laysRow 31 (by decide) rfl o17 dX8_laysRow_141 ?_
          refine qm_iadd E_X8_laysRow dX8_laysRow_142 ?_
          obtain ⟨o18, h⟩ := h
          refine qm_iald E_X8_laysRow 66 (by decide) rfl o18 dX8_laysRow_143 ?_
          refine qm_callS (As := [.int (S4.2 32 x8.toNatClampNeg), .int (S4.2 33 x8.toNatClampNeg), .int (S4.2 66 ((4 * ((12 * a1) + (S.2 65 a1.toNatClampNeg))) + (S4.2 31 x8.toNatClampNeg)).toNatClampNeg)]) (rest := []) E_X8_laysRow rfl M_X8_holds rfl q2167 q2168 rfl rfl (Nat.le_of_ble_eq_true rfl) dX8_laysRow_144 (C_X8_holds (d := d) (S4.2 32 x8.toNatClampNeg) (S4.2 33 x8.toNatClampNeg) (S4.2 66 ((4 * ((12 * a1) + (S.2 65 a1.toNatClampNeg))) + (S4.2 31 x8.toNatClampNeg)).toNatClampNeg) S4 _ ?_)
          refine qm_if_eq E_X8_laysRow 154 dX8_laysRow_147 (by decide) (fun (c19 : (f_X8_holds (S4.2 32 x8.toNatClampNeg) (S4.2 33 x8.toNatClampNeg) (S4.2 66 ((4 * ((12 * a1) + (S.2 65 a1.toNatClampNeg))) + (S4.2 31 x8.toNatClampNeg)).toNatClampNeg)) = 0) => ?_) (fun (c19 : ¬ (f_X8_holds (S4.2 32 x8.toNatClampNeg) (S4.2 33 x8.toNatClampNeg) (S4.2 66 ((4 * ((12 * a1) + (S.2 65 a1.toNatClampNeg))) + (S4.2 31 x8.toNatClampNeg)).toNatClampNeg)) = 0) => ?_)
          · have h := h.1 c19
            refine qm_iconst E_X8_laysRow 0 (by decide) dX8_laysRow_154 ?_
            refine qm_istore E_X8_laysRow (by decide) dX8_laysRow_155 ?_
            refine qm_iinc E_X8_laysRow 1 rfl (by decide) (by decide) dX8_laysRow_157 ?_
            refine qm_goto E_X8_laysRow 90 dX8_laysRow_160 (by decide) ?_
            exact h
          · have h := h.2 c19
            refine qm_iconst E_X8_laysRow 1 (by decide) dX8_laysRow_150 ?_
            refine qm_goto E_X8_laysRow 155 dX8_laysRow_151 (by decide) ?_
            refine qm_istore E_X8_laysRow (by decide) dX8_laysRow_155 ?_
            refine qm_iinc E_X8_laysRow 1 rfl (by decide) (by decide) dX8_laysRow_157 ?_
            refine qm_goto E_X8_laysRow 90 dX8_laysRow_160 (by decide) ?_
            exact h
  · have h := h.2 c5
    refine qm_aload_n E_X8_laysRow (by rfl) dX8_laysRow_24 ?_
    refine qm_get E_X8_laysRow rfl 66 (by decide) q1723 (v := .ref (M.2.2.2 66)) rfl dX8_laysRow_25 ?_
    refine qm_iload E_X8_laysRow (by rfl) dX8_laysRow_28 ?_
    refine qm_iload E_X8_laysRow (by rfl) dX8_laysRow_30 ?_
    refine qm_iadd E_X8_laysRow dX8_laysRow_32 ?_
    refine qm_iload_n E_X8_laysRow (by rfl) dX8_laysRow_33 ?_
    obtain ⟨h9, h⟩ := h
    have Jv24 : ∀ v24 : Int32, v24 = (if a2 = 0 then S4.2 3 ((4 * ((12 * (S4.2 23 a1.toNatClampNeg)) + a3)) + x3).toNatClampNeg else S4.2 59 ((4 * ((12 * a1) + a3)) + x3).toNatClampNeg) → qm_wp M (d + 3) I_X8_laysRow 77 [some (.ref M.2.2.1), some (.int a1), some (.int a2), some (.int a3), some (.int (4 * ((12 * a1) + (S.2 65 a1.toNatClampNeg)))), some (.int x3), none] [.int v24, .int ((4 * ((12 * a1) + (S.2 65 a1.toNatClampNeg))) + x3), .ref (M.2.2.2 66)] S4 (fun v S' => v = none ∧ K S') := by
      rintro _ rfl
      obtain ⟨o25, h⟩ := h
      refine qm_iast E_X8_laysRow 66 (by decide) rfl o25 dX8_laysRow_77 ?_
      refine qm_iinc E_X8_laysRow 1 rfl (by decide) (by decide) dX8_laysRow_78 ?_
      refine qm_goto E_X8_laysRow 18 dX8_laysRow_81 (by decide) ?_
      exact h
    have h := h9
    refine qm_if_eq E_X8_laysRow 56 dX8_laysRow_34 (by decide) (fun (c20 : a2 = 0) => ?_) (fun (c20 : ¬ a2 = 0) => ?_)
    · have h := h.1 c20
      refine qm_aload_n E_X8_laysRow (by rfl) dX8_laysRow_56 ?_
      refine qm_get E_X8_laysRow rfl 3 (by decide) q1660 (v := .ref (M.2.2.2 3)) rfl dX8_laysRow_57 ?_
      refine qm_iconst E_X8_laysRow 4 (by decide) dX8_laysRow_60 ?_
      refine qm_bipush E_X8_laysRow 12 (by decide) dX8_laysRow_61 ?_
      refine qm_aload_n E_X8_laysRow (by rfl) dX8_laysRow_63 ?_
      refine qm_get E_X8_laysRow rfl 23 (by decide) q1680 (v := .ref (M.2.2.2 23)) rfl dX8_laysRow_64 ?_
      refine qm_iload_n E_X8_laysRow (by rfl) dX8_laysRow_67 ?_
      obtain ⟨o21, h⟩ := h
      refine qm_iald E_X8_laysRow 23 (by decide) rfl o21 dX8_laysRow_68 ?_
      refine qm_imul E_X8_laysRow dX8_laysRow_69 ?_
      refine qm_iload_n E_X8_laysRow (by rfl) dX8_laysRow_70 ?_
      refine qm_iadd E_X8_laysRow dX8_laysRow_71 ?_
      refine qm_imul E_X8_laysRow dX8_laysRow_72 ?_
      refine qm_iload E_X8_laysRow (by rfl) dX8_laysRow_73 ?_
      refine qm_iadd E_X8_laysRow dX8_laysRow_75 ?_
      have o22 := h
      refine qm_iald E_X8_laysRow 3 (by decide) rfl o22 dX8_laysRow_76 ?_
      exact Jv24 (S4.2 3 ((4 * ((12 * (S4.2 23 a1.toNatClampNeg)) + a3)) + x3).toNatClampNeg) (by rw [if_pos c20])
    · have h := h.2 c20
      refine qm_aload_n E_X8_laysRow (by rfl) dX8_laysRow_37 ?_
      refine qm_get E_X8_laysRow rfl 59 (by decide) q1716 (v := .ref (M.2.2.2 59)) rfl dX8_laysRow_38 ?_
      refine qm_iconst E_X8_laysRow 4 (by decide) dX8_laysRow_41 ?_
      refine qm_bipush E_X8_laysRow 12 (by decide) dX8_laysRow_42 ?_
      refine qm_iload_n E_X8_laysRow (by rfl) dX8_laysRow_44 ?_
      refine qm_imul E_X8_laysRow dX8_laysRow_45 ?_
      refine qm_iload_n E_X8_laysRow (by rfl) dX8_laysRow_46 ?_
      refine qm_iadd E_X8_laysRow dX8_laysRow_47 ?_
      refine qm_imul E_X8_laysRow dX8_laysRow_48 ?_
      refine qm_iload E_X8_laysRow (by rfl) dX8_laysRow_49 ?_
      refine qm_iadd E_X8_laysRow dX8_laysRow_51 ?_
      have o23 := h
      refine qm_iald E_X8_laysRow 59 (by decide) rfl o23 dX8_laysRow_52 ?_
      refine qm_goto E_X8_laysRow 77 dX8_laysRow_53 (by decide) ?_
      exact Jv24 (S4.2 59 ((4 * ((12 * a1) + a3)) + x3).toNatClampNeg) (by rw [if_neg c20])
def I_X8_cellAt : qh_I := (yX8_cellAt, cX8_cellAt, 3, (Option.some Jvm.ClassFile.FieldType.int), [])
theorem E_X8_cellAt : I_X8_cellAt.2.1 = cX8_cellAt := rfl
theorem M_X8_cellAt : qh_M I_X8_cellAt 2 := ⟨by decide, by decide, by decide +kernel, q95, q2225, by decide⟩
def f_X8_cellAt (a1 a2 : Int32) (S : qm_S) : Int32 := S.2 66 ((4 * ((12 * a1) + (S.2 67 a1.toNatClampNeg))) + a2).toNatClampNeg
def p_X8_cellAt (a1 a2 : Int32) (S : qm_S) : Prop := vp_in a1 (qm_len 67) ∧ vp_in ((4 * ((12 * a1) + (S.2 67 a1.toNatClampNeg))) + a2) (qm_len 66)
set_option maxHeartbeats 4000000 in
theorem C_X8_cellAt {M : qm_G} {d : Nat} (a1 a2 : Int32) (S : qm_S) (Q : Option Value → qm_S → Prop) (hp : p_X8_cellAt a1 a2 S) (hq : Q (some (.int (f_X8_cellAt a1 a2 S))) S) : qm_C M (d + 0) I_X8_cellAt [.ref M.2.2.1, .int a1, .int a2] S Q := by
  refine qm_C.of (by decide) rfl (ls := [some (.ref M.2.2.1), some (.int a1), some (.int a2)]) rfl (Nat.le_of_ble_eq_true rfl) (qm_ct rfl) ?_
  have h := hp
  unfold p_X8_cellAt at h
  unfold f_X8_cellAt at hq
  refine qm_aload_n E_X8_cellAt (by rfl) dX8_cellAt_0 ?_
  refine qm_get E_X8_cellAt rfl 66 (by decide) q1723 (v := .ref (M.2.2.2 66)) rfl dX8_cellAt_1 ?_
  refine qm_iconst E_X8_cellAt 4 (by decide) dX8_cellAt_4 ?_
  refine qm_bipush E_X8_cellAt 12 (by decide) dX8_cellAt_5 ?_
  refine qm_iload_n E_X8_cellAt (by rfl) dX8_cellAt_7 ?_
  refine qm_imul E_X8_cellAt dX8_cellAt_8 ?_
  refine qm_aload_n E_X8_cellAt (by rfl) dX8_cellAt_9 ?_
  refine qm_get E_X8_cellAt rfl 67 (by decide) q1724 (v := .ref (M.2.2.2 67)) rfl dX8_cellAt_10 ?_
  refine qm_iload_n E_X8_cellAt (by rfl) dX8_cellAt_13 ?_
  obtain ⟨o1, h⟩ := h
  refine qm_iald E_X8_cellAt 67 (by decide) rfl o1 dX8_cellAt_14 ?_
  refine qm_iadd E_X8_cellAt dX8_cellAt_15 ?_
  refine qm_imul E_X8_cellAt dX8_cellAt_16 ?_
  refine qm_iload_n E_X8_cellAt (by rfl) dX8_cellAt_17 ?_
  refine qm_iadd E_X8_cellAt dX8_cellAt_18 ?_
  have o2 := h
  refine qm_iald E_X8_cellAt 66 (by decide) rfl o2 dX8_cellAt_19 ?_
  exact qm_iret E_X8_cellAt rfl dX8_cellAt_20 hq
def I_X8_areLinked : qh_I := (yX8_areLinked, cX8_areLinked, 4, (Option.some Jvm.ClassFile.FieldType.boolean), [])
theorem E_X8_areLinked : I_X8_areLinked.2.1 = cX8_areLinked := rfl
theorem M_X8_areLinked : qh_M I_X8_areLinked 0 := ⟨by decide, by decide, by decide +kernel, q95, q2221, by decide⟩
def T_X8_areLinked (S : qm_S) (K : Int32 → Prop) : Prop := ∀ X1 : Int32 → Int32 → Prop, (∀ (x2 x3 : Int32), (((S.1 24) ≤ x3 → (x2 = 0 ∨ x2 = 1) ∧ K x2) ∧ (¬ (S.1 24) ≤ x3 → vp_in x3 (qm_len 25) ∧ vp_in x3 (qm_len 26) ∧ p_X8_cellAt (S.2 25 x3.toNatClampNeg) (S.2 26 x3.toNatClampNeg) S ∧ (x2 = 0 → X1 0 (x3 + 1)) ∧ (¬ x2 = 0 → ((f_X8_isNumber (f_X8_cellAt (S.2 25 x3.toNatClampNeg) (S.2 26 x3.toNatClampNeg) S)) = 0 → X1 0 (x3 + 1)) ∧ (¬ (f_X8_isNumber (f_X8_cellAt (S.2 25 x3.toNatClampNeg) (S.2 26 x3.toNatClampNeg) S)) = 0 → vp_in x3 (qm_len 27) ∧ vp_in x3 (qm_len 28) ∧ p_X8_cellAt (S.2 27 x3.toNatClampNeg) (S.2 28 x3.toNatClampNeg) S ∧ (¬ (f_X8_cellAt (S.2 25 x3.toNatClampNeg) (S.2 26 x3.toNatClampNeg) S) = (f_X8_cellAt (S.2 27 x3.toNatClampNeg) (S.2 28 x3.toNatClampNeg) S) → X1 0 (x3 + 1)) ∧ ((f_X8_cellAt (S.2 25 x3.toNatClampNeg) (S.2 26 x3.toNatClampNeg) S) = (f_X8_cellAt (S.2 27 x3.toNatClampNeg) (S.2 28 x3.toNatClampNeg) S) → X1 1 (x3 + 1)))))) → X1 x2 x3) → X1 1 0
set_option maxHeartbeats 4000000 in
theorem C_X8_areLinked {M : qm_G} {d : Nat} (S : qm_S) (K : Int32 → Prop) (h : T_X8_areLinked  S K) : qm_C M (d + 2) I_X8_areLinked [.ref M.2.2.1] S (fun v S' => ∃ r, v = some (.int r) ∧ (r = 0 ∨ r = 1) ∧ S = S' ∧ K r) := by
  refine qm_C.of (by decide) rfl (ls := [some (.ref M.2.2.1), none, none, none]) rfl (Nat.le_of_ble_eq_true rfl) (qm_ct rfl) ?_
  unfold T_X8_areLinked at h
  refine qm_iconst E_X8_areLinked 1 (by decide) dX8_areLinked_0 ?_
  refine qm_istore_n E_X8_areLinked (by decide) dX8_areLinked_1 ?_
  refine qm_iconst E_X8_areLinked 0 (by decide) dX8_areLinked_2 ?_
  refine qm_istore_n E_X8_areLinked (by decide) dX8_areLinked_3 ?_
  refine h (fun x2 x3 => qm_wp M (d + 2) I_X8_areLinked 4 [some (.ref M.2.2.1), some (.int x2), some (.int x3), none] [] S (fun v S' => ∃ r, v = some (.int r) ∧ (r = 0 ∨ r = 1) ∧ S = S' ∧ K r)) ?_
  intro x2 x3 h
  refine qm_iload_n E_X8_areLinked (by rfl) dX8_areLinked_4 ?_
  refine qm_aload_n E_X8_areLinked (by rfl) dX8_areLinked_5 ?_
  refine qm_get E_X8_areLinked rfl 24 (by decide) q1681 (v := .int (S.1 24)) rfl dX8_areLinked_6 ?_
  refine qm_icmp_ge E_X8_areLinked 72 dX8_areLinked_9 (by decide) (fun (c4 : (S.1 24) ≤ x3) => ?_) (fun (c4 : ¬ (S.1 24) ≤ x3) => ?_)
  · have h := h.1 c4
    refine qm_iload_n E_X8_areLinked (by rfl) dX8_areLinked_72 ?_
    obtain ⟨o5, h⟩ := h
    exact qm_zret E_X8_areLinked rfl (qm_nb o5) dX8_areLinked_73 ⟨_, rfl, o5, rfl, h⟩
  · have h := h.2 c4
    refine qm_aload_n E_X8_areLinked (by rfl) dX8_areLinked_12 ?_
    refine qm_aload_n E_X8_areLinked (by rfl) dX8_areLinked_13 ?_
    refine qm_get E_X8_areLinked rfl 25 (by decide) q1682 (v := .ref (M.2.2.2 25)) rfl dX8_areLinked_14 ?_
    refine qm_iload_n E_X8_areLinked (by rfl) dX8_areLinked_17 ?_
    obtain ⟨o6, h⟩ := h
    refine qm_iald E_X8_areLinked 25 (by decide) rfl o6 dX8_areLinked_18 ?_
    refine qm_aload_n E_X8_areLinked (by rfl) dX8_areLinked_19 ?_
    refine qm_get E_X8_areLinked rfl 26 (by decide) q1683 (v := .ref (M.2.2.2 26)) rfl dX8_areLinked_20 ?_
    refine qm_iload_n E_X8_areLinked (by rfl) dX8_areLinked_23 ?_
    obtain ⟨o7, h⟩ := h
    refine qm_iald E_X8_areLinked 26 (by decide) rfl o7 dX8_areLinked_24 ?_
    obtain ⟨o8, h⟩ := h
    refine qm_callV (As := [.int (S.2 25 x3.toNatClampNeg), .int (S.2 26 x3.toNatClampNeg)]) (rest := []) E_X8_areLinked rfl M_X8_cellAt rfl q2222 q2224 qs74 rfl rfl rfl (Nat.le_of_ble_eq_true rfl) dX8_areLinked_25 (C_X8_cellAt (d := d + 1) (S.2 25 x3.toNatClampNeg) (S.2 26 x3.toNatClampNeg) S _ o8 ?_)
    refine qm_istore_n E_X8_areLinked (by decide) dX8_areLinked_28 ?_
    refine qm_iload_n E_X8_areLinked (by rfl) dX8_areLinked_29 ?_
    refine qm_if_eq E_X8_areLinked 64 dX8_areLinked_30 (by decide) (fun (c9 : x2 = 0) => ?_) (fun (c9 : ¬ x2 = 0) => ?_)
    · have h := h.1 c9
      refine qm_iconst E_X8_areLinked 0 (by decide) dX8_areLinked_64 ?_
      refine qm_istore_n E_X8_areLinked (by decide) dX8_areLinked_65 ?_
      refine qm_iinc E_X8_areLinked 1 rfl (by decide) (by decide) dX8_areLinked_66 ?_
      refine qm_goto E_X8_areLinked 4 dX8_areLinked_69 (by decide) ?_
      refine qm_drop 3 ?_
      exact h
    · have h := h.2 c9
      refine qm_iload_n E_X8_areLinked (by rfl) dX8_areLinked_33 ?_
      refine qm_callS (As := [.int (f_X8_cellAt (S.2 25 x3.toNatClampNeg) (S.2 26 x3.toNatClampNeg) S)]) (rest := []) E_X8_areLinked rfl M_X8_isNumber rfl q1967 q1968 rfl rfl (Nat.le_of_ble_eq_true rfl) dX8_areLinked_34 (C_X8_isNumber (d := d) (f_X8_cellAt (S.2 25 x3.toNatClampNeg) (S.2 26 x3.toNatClampNeg) S) S _ ?_)
      refine qm_if_eq E_X8_areLinked 64 dX8_areLinked_37 (by decide) (fun (c10 : (f_X8_isNumber (f_X8_cellAt (S.2 25 x3.toNatClampNeg) (S.2 26 x3.toNatClampNeg) S)) = 0) => ?_) (fun (c10 : ¬ (f_X8_isNumber (f_X8_cellAt (S.2 25 x3.toNatClampNeg) (S.2 26 x3.toNatClampNeg) S)) = 0) => ?_)
      · have h := h.1 c10
        refine qm_iconst E_X8_areLinked 0 (by decide) dX8_areLinked_64 ?_
        refine qm_istore_n E_X8_areLinked (by decide) dX8_areLinked_65 ?_
        refine qm_iinc E_X8_areLinked 1 rfl (by decide) (by decide) dX8_areLinked_66 ?_
        refine qm_goto E_X8_areLinked 4 dX8_areLinked_69 (by decide) ?_
        refine qm_drop 3 ?_
        exact h
      · have h := h.2 c10
        refine qm_iload_n E_X8_areLinked (by rfl) dX8_areLinked_40 ?_
        refine qm_aload_n E_X8_areLinked (by rfl) dX8_areLinked_41 ?_
        refine qm_aload_n E_X8_areLinked (by rfl) dX8_areLinked_42 ?_
        refine qm_get E_X8_areLinked rfl 27 (by decide) q1684 (v := .ref (M.2.2.2 27)) rfl dX8_areLinked_43 ?_
        refine qm_iload_n E_X8_areLinked (by rfl) dX8_areLinked_46 ?_
        obtain ⟨o11, h⟩ := h
        refine qm_iald E_X8_areLinked 27 (by decide) rfl o11 dX8_areLinked_47 ?_
        refine qm_aload_n E_X8_areLinked (by rfl) dX8_areLinked_48 ?_
        refine qm_get E_X8_areLinked rfl 28 (by decide) q1685 (v := .ref (M.2.2.2 28)) rfl dX8_areLinked_49 ?_
        refine qm_iload_n E_X8_areLinked (by rfl) dX8_areLinked_52 ?_
        obtain ⟨o12, h⟩ := h
        refine qm_iald E_X8_areLinked 28 (by decide) rfl o12 dX8_areLinked_53 ?_
        obtain ⟨o13, h⟩ := h
        refine qm_callV (As := [.int (S.2 27 x3.toNatClampNeg), .int (S.2 28 x3.toNatClampNeg)]) (rest := [.int (f_X8_cellAt (S.2 25 x3.toNatClampNeg) (S.2 26 x3.toNatClampNeg) S)]) E_X8_areLinked rfl M_X8_cellAt rfl q2222 q2224 qs74 rfl rfl rfl (Nat.le_of_ble_eq_true rfl) dX8_areLinked_54 (C_X8_cellAt (d := d + 1) (S.2 27 x3.toNatClampNeg) (S.2 28 x3.toNatClampNeg) S _ o13 ?_)
        refine qm_icmp_ne E_X8_areLinked 64 dX8_areLinked_57 (by decide) (fun (c14 : ¬ (f_X8_cellAt (S.2 25 x3.toNatClampNeg) (S.2 26 x3.toNatClampNeg) S) = (f_X8_cellAt (S.2 27 x3.toNatClampNeg) (S.2 28 x3.toNatClampNeg) S)) => ?_) (fun (c14 : (f_X8_cellAt (S.2 25 x3.toNatClampNeg) (S.2 26 x3.toNatClampNeg) S) = (f_X8_cellAt (S.2 27 x3.toNatClampNeg) (S.2 28 x3.toNatClampNeg) S)) => ?_)
        · have h := h.1 c14
          refine qm_iconst E_X8_areLinked 0 (by decide) dX8_areLinked_64 ?_
          refine qm_istore_n E_X8_areLinked (by decide) dX8_areLinked_65 ?_
          refine qm_iinc E_X8_areLinked 1 rfl (by decide) (by decide) dX8_areLinked_66 ?_
          refine qm_goto E_X8_areLinked 4 dX8_areLinked_69 (by decide) ?_
          refine qm_drop 3 ?_
          exact h
        · have h := h.2 c14
          refine qm_iconst E_X8_areLinked 1 (by decide) dX8_areLinked_60 ?_
          refine qm_goto E_X8_areLinked 65 dX8_areLinked_61 (by decide) ?_
          refine qm_istore_n E_X8_areLinked (by decide) dX8_areLinked_65 ?_
          refine qm_iinc E_X8_areLinked 1 rfl (by decide) (by decide) dX8_areLinked_66 ?_
          refine qm_goto E_X8_areLinked 4 dX8_areLinked_69 (by decide) ?_
          refine qm_drop 3 ?_
          exact h
def I_X8_addsToGroup : qh_I := (yX8_addsToGroup, cX8_addsToGroup, 5, (Option.none : Option Jvm.ClassFile.FieldType), [])
theorem E_X8_addsToGroup : I_X8_addsToGroup.2.1 = cX8_addsToGroup := rfl
theorem M_X8_addsToGroup : qh_M I_X8_addsToGroup 0 := ⟨by decide, by decide, by decide +kernel, q95, q2229, by decide⟩
def T_X8_addsToGroup (S : qm_S) (K : qm_S → Prop) : Prop := p_X8_cellAt (S.2 35 (0 : Int32).toNatClampNeg) (S.2 36 (0 : Int32).toNatClampNeg) S ∧ vp_in ((S.1 34) - 1) (qm_len 35) ∧ vp_in ((S.1 34) - 1) (qm_len 36) ∧ p_X8_cellAt (S.2 35 ((S.1 34) - 1).toNatClampNeg) (S.2 36 ((S.1 34) - 1).toNatClampNeg) S ∧ ∀ X5 : Int32 → Int32 → Prop, (∀ (x6 x7 : Int32), (((S.1 71) ≤ x7 → ∀ J13 : Int32 → qm_S → Prop, (∀ (x14 : Int32) (S15 : qm_S), (vp_in x14 (qm_len 73) ∧ vp_in x14 (qm_len 74) ∧ K ((S15.1, qm_uA (qm_uA S15.2 73 (upd (S15.2 73) x14.toNatClampNeg ((S15.2 73 x14.toNatClampNeg) + 1))) 74 (upd (S15.2 74) x14.toNatClampNeg ((S15.2 74 x14.toNatClampNeg) + ((if (f_X8_isNumber (f_X8_cellAt (S.2 35 ((S.1 34) - 1).toNatClampNeg) (S.2 36 ((S.1 34) - 1).toNatClampNeg) S)) = 0 then (0 : Int32) else f_X8_cellAt (S.2 35 ((S.1 34) - 1).toNatClampNeg) (S.2 36 ((S.1 34) - 1).toNatClampNeg) S))))))) → J13 x14 S15) → (¬ x6 = ((-1)) → J13 x6 S) ∧ (x6 = ((-1)) → vp_in (S.1 71) (qm_len 72) ∧ vp_in (S.1 71) (qm_len 73) ∧ vp_in (S.1 71) (qm_len 74) ∧ J13 (S.1 71) ((upd S.1 71 ((S.1 71) + 1), qm_uA (qm_uA (qm_uA S.2 72 (upd (S.2 72) (S.1 71).toNatClampNeg (f_X8_cellAt (S.2 35 (0 : Int32).toNatClampNeg) (S.2 36 (0 : Int32).toNatClampNeg) S))) 73 (upd (S.2 73) (S.1 71).toNatClampNeg 0)) 74 (upd (S.2 74) (S.1 71).toNatClampNeg 0))))) ∧ (¬ (S.1 71) ≤ x7 → vp_in x7 (qm_len 72) ∧ (¬ (S.2 72 x7.toNatClampNeg) = (f_X8_cellAt (S.2 35 (0 : Int32).toNatClampNeg) (S.2 36 (0 : Int32).toNatClampNeg) S) → X5 x6 (x7 + 1)) ∧ ((S.2 72 x7.toNatClampNeg) = (f_X8_cellAt (S.2 35 (0 : Int32).toNatClampNeg) (S.2 36 (0 : Int32).toNatClampNeg) S) → X5 x7 (x7 + 1)))) → X5 x6 x7) → X5 ((-1)) 0
set_option maxHeartbeats 4000000 in
theorem C_X8_addsToGroup {M : qm_G} {d : Nat} (S : qm_S) (K : qm_S → Prop) (h : T_X8_addsToGroup  S K) : qm_C M (d + 2) I_X8_addsToGroup [.ref M.2.2.1] S (fun v S' => v = none ∧ K S') := by
  refine qm_C.of (by decide) rfl (ls := [some (.ref M.2.2.1), none, none, none, none]) rfl (Nat.le_of_ble_eq_true rfl) (qm_ct rfl) ?_
  unfold T_X8_addsToGroup at h
  refine qm_aload_n E_X8_addsToGroup (by rfl) dX8_addsToGroup_0 ?_
  refine qm_aload_n E_X8_addsToGroup (by rfl) dX8_addsToGroup_1 ?_
  refine qm_get E_X8_addsToGroup rfl 35 (by decide) q1692 (v := .ref (M.2.2.2 35)) rfl dX8_addsToGroup_2 ?_
  refine qm_iconst E_X8_addsToGroup 0 (by decide) dX8_addsToGroup_5 ?_
  refine qm_iald E_X8_addsToGroup 35 (by decide) rfl (qm_lit rfl) dX8_addsToGroup_6 ?_
  refine qm_aload_n E_X8_addsToGroup (by rfl) dX8_addsToGroup_7 ?_
  refine qm_get E_X8_addsToGroup rfl 36 (by decide) q1693 (v := .ref (M.2.2.2 36)) rfl dX8_addsToGroup_8 ?_
  refine qm_iconst E_X8_addsToGroup 0 (by decide) dX8_addsToGroup_11 ?_
  refine qm_iald E_X8_addsToGroup 36 (by decide) rfl (qm_lit rfl) dX8_addsToGroup_12 ?_
  obtain ⟨o1, h⟩ := h
  refine qm_callV (As := [.int (S.2 35 (0 : Int32).toNatClampNeg), .int (S.2 36 (0 : Int32).toNatClampNeg)]) (rest := []) E_X8_addsToGroup rfl M_X8_cellAt rfl q2222 q2224 qs74 rfl rfl rfl (Nat.le_of_ble_eq_true rfl) dX8_addsToGroup_13 (C_X8_cellAt (d := d + 1) (S.2 35 (0 : Int32).toNatClampNeg) (S.2 36 (0 : Int32).toNatClampNeg) S _ o1 ?_)
  refine qm_istore_n E_X8_addsToGroup (by decide) dX8_addsToGroup_16 ?_
  refine qm_aload_n E_X8_addsToGroup (by rfl) dX8_addsToGroup_17 ?_
  refine qm_aload_n E_X8_addsToGroup (by rfl) dX8_addsToGroup_18 ?_
  refine qm_get E_X8_addsToGroup rfl 35 (by decide) q1692 (v := .ref (M.2.2.2 35)) rfl dX8_addsToGroup_19 ?_
  refine qm_aload_n E_X8_addsToGroup (by rfl) dX8_addsToGroup_22 ?_
  refine qm_get E_X8_addsToGroup rfl 34 (by decide) q1691 (v := .int (S.1 34)) rfl dX8_addsToGroup_23 ?_
  refine qm_iconst E_X8_addsToGroup 1 (by decide) dX8_addsToGroup_26 ?_
  refine qm_isub E_X8_addsToGroup dX8_addsToGroup_27 ?_
  obtain ⟨o2, h⟩ := h
  refine qm_iald E_X8_addsToGroup 35 (by decide) rfl o2 dX8_addsToGroup_28 ?_
  refine qm_aload_n E_X8_addsToGroup (by rfl) dX8_addsToGroup_29 ?_
  refine qm_get E_X8_addsToGroup rfl 36 (by decide) q1693 (v := .ref (M.2.2.2 36)) rfl dX8_addsToGroup_30 ?_
  refine qm_aload_n E_X8_addsToGroup (by rfl) dX8_addsToGroup_33 ?_
  refine qm_get E_X8_addsToGroup rfl 34 (by decide) q1691 (v := .int (S.1 34)) rfl dX8_addsToGroup_34 ?_
  refine qm_iconst E_X8_addsToGroup 1 (by decide) dX8_addsToGroup_37 ?_
  refine qm_isub E_X8_addsToGroup dX8_addsToGroup_38 ?_
  obtain ⟨o3, h⟩ := h
  refine qm_iald E_X8_addsToGroup 36 (by decide) rfl o3 dX8_addsToGroup_39 ?_
  obtain ⟨o4, h⟩ := h
  refine qm_callV (As := [.int (S.2 35 ((S.1 34) - 1).toNatClampNeg), .int (S.2 36 ((S.1 34) - 1).toNatClampNeg)]) (rest := []) E_X8_addsToGroup rfl M_X8_cellAt rfl q2222 q2224 qs74 rfl rfl rfl (Nat.le_of_ble_eq_true rfl) dX8_addsToGroup_40 (C_X8_cellAt (d := d + 1) (S.2 35 ((S.1 34) - 1).toNatClampNeg) (S.2 36 ((S.1 34) - 1).toNatClampNeg) S _ o4 ?_)
  refine qm_istore_n E_X8_addsToGroup (by decide) dX8_addsToGroup_43 ?_
  refine qm_iconst E_X8_addsToGroup (-1) (by decide) dX8_addsToGroup_44 ?_
  refine qm_istore_n E_X8_addsToGroup (by decide) dX8_addsToGroup_45 ?_
  refine qm_iconst E_X8_addsToGroup 0 (by decide) dX8_addsToGroup_46 ?_
  refine qm_istore E_X8_addsToGroup (by decide) dX8_addsToGroup_47 ?_
  refine h (fun x6 x7 => qm_wp M (d + 2) I_X8_addsToGroup 49 [some (.ref M.2.2.1), some (.int (f_X8_cellAt (S.2 35 (0 : Int32).toNatClampNeg) (S.2 36 (0 : Int32).toNatClampNeg) S)), some (.int (f_X8_cellAt (S.2 35 ((S.1 34) - 1).toNatClampNeg) (S.2 36 ((S.1 34) - 1).toNatClampNeg) S)), some (.int x6), some (.int x7)] [] S (fun v S' => v = none ∧ K S')) ?_
  intro x6 x7 h
  refine qm_iload E_X8_addsToGroup (by rfl) dX8_addsToGroup_49 ?_
  refine qm_aload_n E_X8_addsToGroup (by rfl) dX8_addsToGroup_51 ?_
  refine qm_get E_X8_addsToGroup rfl 71 (by decide) q1728 (v := .int (S.1 71)) rfl dX8_addsToGroup_52 ?_
  refine qm_icmp_ge E_X8_addsToGroup 82 dX8_addsToGroup_55 (by decide) (fun (c8 : (S.1 71) ≤ x7) => ?_) (fun (c8 : ¬ (S.1 71) ≤ x7) => ?_)
  · have h := h.1 c8
    refine qm_iload_n E_X8_addsToGroup (by rfl) dX8_addsToGroup_82 ?_
    refine qm_iconst E_X8_addsToGroup (-1) (by decide) dX8_addsToGroup_83 ?_
    have h := h (fun x14 S15 => qm_wp M (d + 2) I_X8_addsToGroup 123 [some (.ref M.2.2.1), some (.int (f_X8_cellAt (S.2 35 (0 : Int32).toNatClampNeg) (S.2 36 (0 : Int32).toNatClampNeg) S)), some (.int (f_X8_cellAt (S.2 35 ((S.1 34) - 1).toNatClampNeg) (S.2 36 ((S.1 34) - 1).toNatClampNeg) S)), some (.int x14), some (.int x7)] [] S15 (fun v S' => v = none ∧ K S')) (by
      intro x14 S15 h
      refine qm_aload_n E_X8_addsToGroup (by rfl) dX8_addsToGroup_123 ?_
      refine qm_get E_X8_addsToGroup rfl 73 (by decide) q1730 (v := .ref (M.2.2.2 73)) rfl dX8_addsToGroup_124 ?_
      refine qm_iload_n E_X8_addsToGroup (by rfl) dX8_addsToGroup_127 ?_
      refine qm_dup2 E_X8_addsToGroup rfl rfl dX8_addsToGroup_128 ?_
      obtain ⟨o16, h⟩ := h
      refine qm_iald E_X8_addsToGroup 73 (by decide) rfl o16 dX8_addsToGroup_129 ?_
      refine qm_iconst E_X8_addsToGroup 1 (by decide) dX8_addsToGroup_130 ?_
      refine qm_iadd E_X8_addsToGroup dX8_addsToGroup_131 ?_
      refine qm_iast E_X8_addsToGroup 73 (by decide) rfl o16 dX8_addsToGroup_132 ?_
      refine qm_aload_n E_X8_addsToGroup (by rfl) dX8_addsToGroup_133 ?_
      refine qm_get E_X8_addsToGroup rfl 74 (by decide) q1731 (v := .ref (M.2.2.2 74)) rfl dX8_addsToGroup_134 ?_
      refine qm_iload_n E_X8_addsToGroup (by rfl) dX8_addsToGroup_137 ?_
      refine qm_dup2 E_X8_addsToGroup rfl rfl dX8_addsToGroup_138 ?_
      obtain ⟨o17, h⟩ := h
      refine qm_iald E_X8_addsToGroup 74 (by decide) rfl o17 dX8_addsToGroup_139 ?_
      refine qm_iload_n E_X8_addsToGroup (by rfl) dX8_addsToGroup_140 ?_
      refine qm_callS (As := [.int (f_X8_cellAt (S.2 35 ((S.1 34) - 1).toNatClampNeg) (S.2 36 ((S.1 34) - 1).toNatClampNeg) S)]) (rest := [.int (S15.2 74 x14.toNatClampNeg), .int x14, .ref (M.2.2.2 74)]) E_X8_addsToGroup rfl M_X8_isNumber rfl q1967 q1968 rfl rfl (Nat.le_of_ble_eq_true rfl) dX8_addsToGroup_141 (C_X8_isNumber (d := d) (f_X8_cellAt (S.2 35 ((S.1 34) - 1).toNatClampNeg) (S.2 36 ((S.1 34) - 1).toNatClampNeg) S) ((S15.1, qm_uA S15.2 73 (upd (S15.2 73) x14.toNatClampNeg ((S15.2 73 x14.toNatClampNeg) + 1)))) _ ?_)
      have Jv19 : ∀ v19 : Int32, v19 = (if (f_X8_isNumber (f_X8_cellAt (S.2 35 ((S.1 34) - 1).toNatClampNeg) (S.2 36 ((S.1 34) - 1).toNatClampNeg) S)) = 0 then (0 : Int32) else f_X8_cellAt (S.2 35 ((S.1 34) - 1).toNatClampNeg) (S.2 36 ((S.1 34) - 1).toNatClampNeg) S) → qm_wp M (d + 2) I_X8_addsToGroup 152 [some (.ref M.2.2.1), some (.int (f_X8_cellAt (S.2 35 (0 : Int32).toNatClampNeg) (S.2 36 (0 : Int32).toNatClampNeg) S)), some (.int (f_X8_cellAt (S.2 35 ((S.1 34) - 1).toNatClampNeg) (S.2 36 ((S.1 34) - 1).toNatClampNeg) S)), some (.int x14), some (.int x7)] [.int v19, .int (S15.2 74 x14.toNatClampNeg), .int x14, .ref (M.2.2.2 74)] (S15.1, qm_uA S15.2 73 (upd (S15.2 73) x14.toNatClampNeg ((S15.2 73 x14.toNatClampNeg) + 1))) (fun v S' => v = none ∧ K S') := by
        rintro _ rfl
        refine qm_iadd E_X8_addsToGroup dX8_addsToGroup_152 ?_
        refine qm_iast E_X8_addsToGroup 74 (by decide) rfl o17 dX8_addsToGroup_153 ?_
        exact qm_vret E_X8_addsToGroup rfl dX8_addsToGroup_154 ⟨rfl, h⟩
      refine qm_if_eq E_X8_addsToGroup 151 dX8_addsToGroup_144 (by decide) (fun (c18 : (f_X8_isNumber (f_X8_cellAt (S.2 35 ((S.1 34) - 1).toNatClampNeg) (S.2 36 ((S.1 34) - 1).toNatClampNeg) S)) = 0) => ?_) (fun (c18 : ¬ (f_X8_isNumber (f_X8_cellAt (S.2 35 ((S.1 34) - 1).toNatClampNeg) (S.2 36 ((S.1 34) - 1).toNatClampNeg) S)) = 0) => ?_)
      · refine qm_iconst E_X8_addsToGroup 0 (by decide) dX8_addsToGroup_151 ?_
        exact Jv19 ((0 : Int32)) (by rw [if_pos c18])
      · refine qm_iload_n E_X8_addsToGroup (by rfl) dX8_addsToGroup_147 ?_
        refine qm_goto E_X8_addsToGroup 152 dX8_addsToGroup_148 (by decide) ?_
        exact Jv19 (f_X8_cellAt (S.2 35 ((S.1 34) - 1).toNatClampNeg) (S.2 36 ((S.1 34) - 1).toNatClampNeg) S) (by rw [if_neg c18]))
    refine qm_icmp_ne E_X8_addsToGroup 123 dX8_addsToGroup_84 (by decide) (fun (c9 : ¬ x6 = ((-1))) => ?_) (fun (c9 : x6 = ((-1))) => ?_)
    · have h := h.1 c9
      exact h
    · have h := h.2 c9
      refine qm_aload_n E_X8_addsToGroup (by rfl) dX8_addsToGroup_87 ?_
      refine qm_get E_X8_addsToGroup rfl 71 (by decide) q1728 (v := .int (S.1 71)) rfl dX8_addsToGroup_88 ?_
      refine qm_istore_n E_X8_addsToGroup (by decide) dX8_addsToGroup_91 ?_
      refine qm_aload_n E_X8_addsToGroup (by rfl) dX8_addsToGroup_92 ?_
      refine qm_get E_X8_addsToGroup rfl 72 (by decide) q1729 (v := .ref (M.2.2.2 72)) rfl dX8_addsToGroup_93 ?_
      refine qm_iload_n E_X8_addsToGroup (by rfl) dX8_addsToGroup_96 ?_
      refine qm_iload_n E_X8_addsToGroup (by rfl) dX8_addsToGroup_97 ?_
      obtain ⟨o10, h⟩ := h
      refine qm_iast E_X8_addsToGroup 72 (by decide) rfl o10 dX8_addsToGroup_98 ?_
      refine qm_aload_n E_X8_addsToGroup (by rfl) dX8_addsToGroup_99 ?_
      refine qm_get E_X8_addsToGroup rfl 73 (by decide) q1730 (v := .ref (M.2.2.2 73)) rfl dX8_addsToGroup_100 ?_
      refine qm_iload_n E_X8_addsToGroup (by rfl) dX8_addsToGroup_103 ?_
      refine qm_iconst E_X8_addsToGroup 0 (by decide) dX8_addsToGroup_104 ?_
      obtain ⟨o11, h⟩ := h
      refine qm_iast E_X8_addsToGroup 73 (by decide) rfl o11 dX8_addsToGroup_105 ?_
      refine qm_aload_n E_X8_addsToGroup (by rfl) dX8_addsToGroup_106 ?_
      refine qm_get E_X8_addsToGroup rfl 74 (by decide) q1731 (v := .ref (M.2.2.2 74)) rfl dX8_addsToGroup_107 ?_
      refine qm_iload_n E_X8_addsToGroup (by rfl) dX8_addsToGroup_110 ?_
      refine qm_iconst E_X8_addsToGroup 0 (by decide) dX8_addsToGroup_111 ?_
      obtain ⟨o12, h⟩ := h
      refine qm_iast E_X8_addsToGroup 74 (by decide) rfl o12 dX8_addsToGroup_112 ?_
      refine qm_aload_n E_X8_addsToGroup (by rfl) dX8_addsToGroup_113 ?_
      refine qm_dup E_X8_addsToGroup rfl dX8_addsToGroup_114 ?_
      refine qm_get E_X8_addsToGroup rfl 71 (by decide) q1728 (v := .int (S.1 71)) rfl dX8_addsToGroup_115 ?_
      refine qm_iconst E_X8_addsToGroup 1 (by decide) dX8_addsToGroup_118 ?_
      refine qm_iadd E_X8_addsToGroup dX8_addsToGroup_119 ?_
      refine qm_put E_X8_addsToGroup rfl 71 (by decide) q1728 rfl rfl rfl (qm_set71) dX8_addsToGroup_120 ?_
      exact h
  · have h := h.2 c8
    refine qm_aload_n E_X8_addsToGroup (by rfl) dX8_addsToGroup_58 ?_
    refine qm_get E_X8_addsToGroup rfl 72 (by decide) q1729 (v := .ref (M.2.2.2 72)) rfl dX8_addsToGroup_59 ?_
    refine qm_iload E_X8_addsToGroup (by rfl) dX8_addsToGroup_62 ?_
    obtain ⟨o20, h⟩ := h
    refine qm_iald E_X8_addsToGroup 72 (by decide) rfl o20 dX8_addsToGroup_64 ?_
    refine qm_iload_n E_X8_addsToGroup (by rfl) dX8_addsToGroup_65 ?_
    refine qm_icmp_ne E_X8_addsToGroup 74 dX8_addsToGroup_66 (by decide) (fun (c21 : ¬ (S.2 72 x7.toNatClampNeg) = (f_X8_cellAt (S.2 35 (0 : Int32).toNatClampNeg) (S.2 36 (0 : Int32).toNatClampNeg) S)) => ?_) (fun (c21 : (S.2 72 x7.toNatClampNeg) = (f_X8_cellAt (S.2 35 (0 : Int32).toNatClampNeg) (S.2 36 (0 : Int32).toNatClampNeg) S)) => ?_)
    · have h := h.1 c21
      refine qm_iload_n E_X8_addsToGroup (by rfl) dX8_addsToGroup_74 ?_
      refine qm_istore_n E_X8_addsToGroup (by decide) dX8_addsToGroup_75 ?_
      refine qm_iinc E_X8_addsToGroup 1 rfl (by decide) (by decide) dX8_addsToGroup_76 ?_
      refine qm_goto E_X8_addsToGroup 49 dX8_addsToGroup_79 (by decide) ?_
      exact h
    · have h := h.2 c21
      refine qm_iload E_X8_addsToGroup (by rfl) dX8_addsToGroup_69 ?_
      refine qm_goto E_X8_addsToGroup 75 dX8_addsToGroup_71 (by decide) ?_
      refine qm_istore_n E_X8_addsToGroup (by decide) dX8_addsToGroup_75 ?_
      refine qm_iinc E_X8_addsToGroup 1 rfl (by decide) (by decide) dX8_addsToGroup_76 ?_
      refine qm_goto E_X8_addsToGroup 49 dX8_addsToGroup_79 (by decide) ?_
      exact h
def I_X8_addsMatch : qh_I := (yX8_addsMatch, cX8_addsMatch, 2, (Option.none : Option Jvm.ClassFile.FieldType), [])
theorem E_X8_addsMatch : I_X8_addsMatch.2.1 = cX8_addsMatch := rfl
theorem M_X8_addsMatch : qh_M I_X8_addsMatch 0 := ⟨by decide, by decide, by decide +kernel, q95, q2233, by decide⟩
def T_X8_addsMatch (S : qm_S) (K : qm_S → Prop) : Prop := ∀ X1 : Int32 → qm_S → Prop, (∀ (x2 : Int32) (S3 : qm_S), (∀ J10 : Prop, ((K ((upd S3.1 68 ((S3.1 68) + ((if (S3.1 37) ≤ (S3.1 68) then (0 : Int32) else (1 : Int32)))), S3.2))) → J10) → ((S3.1 34) ≤ x2 → J10) ∧ (¬ (S3.1 34) ≤ x2 → ((S3.1 37) ≤ (S3.1 68) → J10) ∧ (¬ (S3.1 37) ≤ (S3.1 68) → vp_in x2 (qm_len 35) ∧ vp_in x2 (qm_len 36) ∧ p_X8_cellAt (S3.2 35 x2.toNatClampNeg) (S3.2 36 x2.toNatClampNeg) S3 ∧ vp_in ((3 * (S3.1 68)) + x2) (qm_len 70) ∧ X1 (x2 + 1) ((S3.1, qm_uA S3.2 70 (upd (S3.2 70) ((3 * (S3.1 68)) + x2).toNatClampNeg (f_X8_cellAt (S3.2 35 x2.toNatClampNeg) (S3.2 36 x2.toNatClampNeg) S3))))))) → X1 x2 S3) → X1 0 S
set_option maxHeartbeats 4000000 in
theorem C_X8_addsMatch {M : qm_G} {d : Nat} (S : qm_S) (K : qm_S → Prop) (h : T_X8_addsMatch  S K) : qm_C M (d + 1) I_X8_addsMatch [.ref M.2.2.1] S (fun v S' => v = none ∧ K S') := by
  refine qm_C.of (by decide) rfl (ls := [some (.ref M.2.2.1), none]) rfl (Nat.le_of_ble_eq_true rfl) (qm_ct rfl) ?_
  unfold T_X8_addsMatch at h
  refine qm_iconst E_X8_addsMatch 0 (by decide) dX8_addsMatch_0 ?_
  refine qm_istore_n E_X8_addsMatch (by decide) dX8_addsMatch_1 ?_
  refine h (fun x2 S3 => qm_wp M (d + 1) I_X8_addsMatch 2 [some (.ref M.2.2.1), some (.int x2)] [] S3 (fun v S' => v = none ∧ K S')) ?_
  intro x2 S3 h
  refine qm_iload_n E_X8_addsMatch (by rfl) dX8_addsMatch_2 ?_
  refine qm_aload_n E_X8_addsMatch (by rfl) dX8_addsMatch_3 ?_
  refine qm_get E_X8_addsMatch rfl 34 (by decide) q1691 (v := .int (S3.1 34)) rfl dX8_addsMatch_4 ?_
  have h := h (qm_wp M (d + 1) I_X8_addsMatch 56 [some (.ref M.2.2.1), some (.int x2)] [] S3 (fun v S' => v = none ∧ K S')) (by
    intro h
    refine qm_aload_n E_X8_addsMatch (by rfl) dX8_addsMatch_56 ?_
    refine qm_dup E_X8_addsMatch rfl dX8_addsMatch_57 ?_
    refine qm_get E_X8_addsMatch rfl 68 (by decide) q1725 (v := .int (S3.1 68)) rfl dX8_addsMatch_58 ?_
    refine qm_aload_n E_X8_addsMatch (by rfl) dX8_addsMatch_61 ?_
    refine qm_get E_X8_addsMatch rfl 68 (by decide) q1725 (v := .int (S3.1 68)) rfl dX8_addsMatch_62 ?_
    refine qm_aload_n E_X8_addsMatch (by rfl) dX8_addsMatch_65 ?_
    refine qm_get E_X8_addsMatch rfl 37 (by decide) q1694 (v := .int (S3.1 37)) rfl dX8_addsMatch_66 ?_
    have Jv12 : ∀ v12 : Int32, v12 = (if (S3.1 37) ≤ (S3.1 68) then (0 : Int32) else (1 : Int32)) → qm_wp M (d + 1) I_X8_addsMatch 77 [some (.ref M.2.2.1), some (.int x2)] [.int v12, .int (S3.1 68), .ref M.2.2.1] S3 (fun v S' => v = none ∧ K S') := by
      rintro _ rfl
      refine qm_iadd E_X8_addsMatch dX8_addsMatch_77 ?_
      refine qm_put E_X8_addsMatch rfl 68 (by decide) q1725 rfl rfl rfl (qm_set68) dX8_addsMatch_78 ?_
      exact qm_vret E_X8_addsMatch rfl dX8_addsMatch_81 ⟨rfl, h⟩
    refine qm_icmp_ge E_X8_addsMatch 76 dX8_addsMatch_69 (by decide) (fun (c11 : (S3.1 37) ≤ (S3.1 68)) => ?_) (fun (c11 : ¬ (S3.1 37) ≤ (S3.1 68)) => ?_)
    · refine qm_iconst E_X8_addsMatch 0 (by decide) dX8_addsMatch_76 ?_
      exact Jv12 ((0 : Int32)) (by rw [if_pos c11])
    · refine qm_iconst E_X8_addsMatch 1 (by decide) dX8_addsMatch_72 ?_
      refine qm_goto E_X8_addsMatch 77 dX8_addsMatch_73 (by decide) ?_
      exact Jv12 ((1 : Int32)) (by rw [if_neg c11]))
  refine qm_icmp_ge E_X8_addsMatch 56 dX8_addsMatch_7 (by decide) (fun (c4 : (S3.1 34) ≤ x2) => ?_) (fun (c4 : ¬ (S3.1 34) ≤ x2) => ?_)
  · have h := h.1 c4
    exact h
  · have h := h.2 c4
    refine qm_aload_n E_X8_addsMatch (by rfl) dX8_addsMatch_10 ?_
    refine qm_get E_X8_addsMatch rfl 68 (by decide) q1725 (v := .int (S3.1 68)) rfl dX8_addsMatch_11 ?_
    refine qm_aload_n E_X8_addsMatch (by rfl) dX8_addsMatch_14 ?_
    refine qm_get E_X8_addsMatch rfl 37 (by decide) q1694 (v := .int (S3.1 37)) rfl dX8_addsMatch_15 ?_
    refine qm_icmp_ge E_X8_addsMatch 56 dX8_addsMatch_18 (by decide) (fun (c5 : (S3.1 37) ≤ (S3.1 68)) => ?_) (fun (c5 : ¬ (S3.1 37) ≤ (S3.1 68)) => ?_)
    · have h := h.1 c5
      exact h
    · have h := h.2 c5
      refine qm_aload_n E_X8_addsMatch (by rfl) dX8_addsMatch_21 ?_
      refine qm_get E_X8_addsMatch rfl 70 (by decide) q1727 (v := .ref (M.2.2.2 70)) rfl dX8_addsMatch_22 ?_
      refine qm_iconst E_X8_addsMatch 3 (by decide) dX8_addsMatch_25 ?_
      refine qm_aload_n E_X8_addsMatch (by rfl) dX8_addsMatch_26 ?_
      refine qm_get E_X8_addsMatch rfl 68 (by decide) q1725 (v := .int (S3.1 68)) rfl dX8_addsMatch_27 ?_
      refine qm_imul E_X8_addsMatch dX8_addsMatch_30 ?_
      refine qm_iload_n E_X8_addsMatch (by rfl) dX8_addsMatch_31 ?_
      refine qm_iadd E_X8_addsMatch dX8_addsMatch_32 ?_
      refine qm_aload_n E_X8_addsMatch (by rfl) dX8_addsMatch_33 ?_
      refine qm_aload_n E_X8_addsMatch (by rfl) dX8_addsMatch_34 ?_
      refine qm_get E_X8_addsMatch rfl 35 (by decide) q1692 (v := .ref (M.2.2.2 35)) rfl dX8_addsMatch_35 ?_
      refine qm_iload_n E_X8_addsMatch (by rfl) dX8_addsMatch_38 ?_
      obtain ⟨o6, h⟩ := h
      refine qm_iald E_X8_addsMatch 35 (by decide) rfl o6 dX8_addsMatch_39 ?_
      refine qm_aload_n E_X8_addsMatch (by rfl) dX8_addsMatch_40 ?_
      refine qm_get E_X8_addsMatch rfl 36 (by decide) q1693 (v := .ref (M.2.2.2 36)) rfl dX8_addsMatch_41 ?_
      refine qm_iload_n E_X8_addsMatch (by rfl) dX8_addsMatch_44 ?_
      obtain ⟨o7, h⟩ := h
      refine qm_iald E_X8_addsMatch 36 (by decide) rfl o7 dX8_addsMatch_45 ?_
      obtain ⟨o8, h⟩ := h
      refine qm_callV (As := [.int (S3.2 35 x2.toNatClampNeg), .int (S3.2 36 x2.toNatClampNeg)]) (rest := [.int ((3 * (S3.1 68)) + x2), .ref (M.2.2.2 70)]) E_X8_addsMatch rfl M_X8_cellAt rfl q2222 q2224 qs74 rfl rfl rfl (Nat.le_of_ble_eq_true rfl) dX8_addsMatch_46 (C_X8_cellAt (d := d) (S3.2 35 x2.toNatClampNeg) (S3.2 36 x2.toNatClampNeg) S3 _ o8 ?_)
      obtain ⟨o9, h⟩ := h
      refine qm_iast E_X8_addsMatch 70 (by decide) rfl o9 dX8_addsMatch_49 ?_
      refine qm_iinc E_X8_addsMatch 1 rfl (by decide) (by decide) dX8_addsMatch_50 ?_
      refine qm_goto E_X8_addsMatch 2 dX8_addsMatch_53 (by decide) ?_
      exact h
def I_X8_goesOn : qh_I := (yX8_goesOn, cX8_goesOn, 2, (Option.some Jvm.ClassFile.FieldType.boolean), [])
theorem E_X8_goesOn : I_X8_goesOn.2.1 = cX8_goesOn := rfl
theorem M_X8_goesOn : qh_M I_X8_goesOn 0 := ⟨by decide, by decide, by decide +kernel, q95, q2237, by decide⟩
def T_X8_goesOn (S : qm_S) (K : Int32 → qm_S → Prop) : Prop := vp_in ((S.1 22) - 1) (qm_len 67) ∧ ∀ X2 : Int32 → qm_S → Prop, (∀ (x3 : Int32) (S4 : qm_S), (∀ J10 : Prop, ((((S4.2 65 (0 : Int32).toNatClampNeg) ≤ (S4.2 67 (0 : Int32).toNatClampNeg) → K 0 S4) ∧ (¬ (S4.2 65 (0 : Int32).toNatClampNeg) ≤ (S4.2 67 (0 : Int32).toNatClampNeg) → K 1 S4)) → J10) → (x3 ≤ 0 → J10) ∧ (¬ x3 ≤ 0 → vp_in x3 (qm_len 67) ∧ vp_in x3 (qm_len 65) ∧ (¬ (S4.2 67 x3.toNatClampNeg) = (S4.2 65 x3.toNatClampNeg) → J10) ∧ ((S4.2 67 x3.toNatClampNeg) = (S4.2 65 x3.toNatClampNeg) → vp_in (x3 + (-1)) (qm_len 67) ∧ X2 (x3 + (-1)) ((S4.1, qm_uA (qm_uA S4.2 67 (upd (S4.2 67) x3.toNatClampNeg 0)) 67 (upd (upd (S4.2 67) x3.toNatClampNeg 0) (x3 + (-1)).toNatClampNeg (((upd (S4.2 67) x3.toNatClampNeg 0) (x3 + (-1)).toNatClampNeg) + 1))))))) → X2 x3 S4) → X2 ((S.1 22) - 1) ((S.1, qm_uA S.2 67 (upd (S.2 67) ((S.1 22) - 1).toNatClampNeg ((S.2 67 ((S.1 22) - 1).toNatClampNeg) + 1))))
set_option maxHeartbeats 4000000 in
theorem C_X8_goesOn {M : qm_G} {d : Nat} (S : qm_S) (K : Int32 → qm_S → Prop) (h : T_X8_goesOn  S K) : qm_C M (d + 0) I_X8_goesOn [.ref M.2.2.1] S (fun v S' => ∃ r, v = some (.int r) ∧ (r = 0 ∨ r = 1) ∧ K r S') := by
  refine qm_C.of (by decide) rfl (ls := [some (.ref M.2.2.1), none]) rfl (Nat.le_of_ble_eq_true rfl) (qm_ct rfl) ?_
  unfold T_X8_goesOn at h
  refine qm_aload_n E_X8_goesOn (by rfl) dX8_goesOn_0 ?_
  refine qm_get E_X8_goesOn rfl 22 (by decide) q1679 (v := .int (S.1 22)) rfl dX8_goesOn_1 ?_
  refine qm_iconst E_X8_goesOn 1 (by decide) dX8_goesOn_4 ?_
  refine qm_isub E_X8_goesOn dX8_goesOn_5 ?_
  refine qm_istore_n E_X8_goesOn (by decide) dX8_goesOn_6 ?_
  refine qm_aload_n E_X8_goesOn (by rfl) dX8_goesOn_7 ?_
  refine qm_get E_X8_goesOn rfl 67 (by decide) q1724 (v := .ref (M.2.2.2 67)) rfl dX8_goesOn_8 ?_
  refine qm_iload_n E_X8_goesOn (by rfl) dX8_goesOn_11 ?_
  refine qm_dup2 E_X8_goesOn rfl rfl dX8_goesOn_12 ?_
  obtain ⟨o1, h⟩ := h
  refine qm_iald E_X8_goesOn 67 (by decide) rfl o1 dX8_goesOn_13 ?_
  refine qm_iconst E_X8_goesOn 1 (by decide) dX8_goesOn_14 ?_
  refine qm_iadd E_X8_goesOn dX8_goesOn_15 ?_
  refine qm_iast E_X8_goesOn 67 (by decide) rfl o1 dX8_goesOn_16 ?_
  refine h (fun x3 S4 => qm_wp M (d + 0) I_X8_goesOn 17 [some (.ref M.2.2.1), some (.int x3)] [] S4 (fun v S' => ∃ r, v = some (.int r) ∧ (r = 0 ∨ r = 1) ∧ K r S')) ?_
  intro x3 S4 h
  refine qm_iload_n E_X8_goesOn (by rfl) dX8_goesOn_17 ?_
  have h := h (qm_wp M (d + 0) I_X8_goesOn 59 [some (.ref M.2.2.1), some (.int x3)] [] S4 (fun v S' => ∃ r, v = some (.int r) ∧ (r = 0 ∨ r = 1) ∧ K r S')) (by
    intro h
    refine qm_aload_n E_X8_goesOn (by rfl) dX8_goesOn_59 ?_
    refine qm_get E_X8_goesOn rfl 67 (by decide) q1724 (v := .ref (M.2.2.2 67)) rfl dX8_goesOn_60 ?_
    refine qm_iconst E_X8_goesOn 0 (by decide) dX8_goesOn_63 ?_
    refine qm_iald E_X8_goesOn 67 (by decide) rfl (qm_lit rfl) dX8_goesOn_64 ?_
    refine qm_aload_n E_X8_goesOn (by rfl) dX8_goesOn_65 ?_
    refine qm_get E_X8_goesOn rfl 65 (by decide) q1722 (v := .ref (M.2.2.2 65)) rfl dX8_goesOn_66 ?_
    refine qm_iconst E_X8_goesOn 0 (by decide) dX8_goesOn_69 ?_
    refine qm_iald E_X8_goesOn 65 (by decide) rfl (qm_lit rfl) dX8_goesOn_70 ?_
    refine qm_icmp_ge E_X8_goesOn 78 dX8_goesOn_71 (by decide) (fun (c11 : (S4.2 65 (0 : Int32).toNatClampNeg) ≤ (S4.2 67 (0 : Int32).toNatClampNeg)) => ?_) (fun (c11 : ¬ (S4.2 65 (0 : Int32).toNatClampNeg) ≤ (S4.2 67 (0 : Int32).toNatClampNeg)) => ?_)
    · have h := h.1 c11
      refine qm_iconst E_X8_goesOn 0 (by decide) dX8_goesOn_78 ?_
      exact qm_zret E_X8_goesOn rfl (qm_nb (Or.inl rfl)) dX8_goesOn_79 ⟨_, rfl, (Or.inl rfl), h⟩
    · have h := h.2 c11
      refine qm_iconst E_X8_goesOn 1 (by decide) dX8_goesOn_74 ?_
      refine qm_goto E_X8_goesOn 79 dX8_goesOn_75 (by decide) ?_
      exact qm_zret E_X8_goesOn rfl (qm_nb (Or.inr rfl)) dX8_goesOn_79 ⟨_, rfl, (Or.inr rfl), h⟩)
  refine qm_if_le E_X8_goesOn 59 dX8_goesOn_18 (by decide) (fun (c5 : x3 ≤ 0) => ?_) (fun (c5 : ¬ x3 ≤ 0) => ?_)
  · have h := h.1 c5
    exact h
  · have h := h.2 c5
    refine qm_aload_n E_X8_goesOn (by rfl) dX8_goesOn_21 ?_
    refine qm_get E_X8_goesOn rfl 67 (by decide) q1724 (v := .ref (M.2.2.2 67)) rfl dX8_goesOn_22 ?_
    refine qm_iload_n E_X8_goesOn (by rfl) dX8_goesOn_25 ?_
    obtain ⟨o6, h⟩ := h
    refine qm_iald E_X8_goesOn 67 (by decide) rfl o6 dX8_goesOn_26 ?_
    refine qm_aload_n E_X8_goesOn (by rfl) dX8_goesOn_27 ?_
    refine qm_get E_X8_goesOn rfl 65 (by decide) q1722 (v := .ref (M.2.2.2 65)) rfl dX8_goesOn_28 ?_
    refine qm_iload_n E_X8_goesOn (by rfl) dX8_goesOn_31 ?_
    obtain ⟨o7, h⟩ := h
    refine qm_iald E_X8_goesOn 65 (by decide) rfl o7 dX8_goesOn_32 ?_
    refine qm_icmp_ne E_X8_goesOn 59 dX8_goesOn_33 (by decide) (fun (c8 : ¬ (S4.2 67 x3.toNatClampNeg) = (S4.2 65 x3.toNatClampNeg)) => ?_) (fun (c8 : (S4.2 67 x3.toNatClampNeg) = (S4.2 65 x3.toNatClampNeg)) => ?_)
    · have h := h.1 c8
      exact h
    · have h := h.2 c8
      refine qm_aload_n E_X8_goesOn (by rfl) dX8_goesOn_36 ?_
      refine qm_get E_X8_goesOn rfl 67 (by decide) q1724 (v := .ref (M.2.2.2 67)) rfl dX8_goesOn_37 ?_
      refine qm_iload_n E_X8_goesOn (by rfl) dX8_goesOn_40 ?_
      refine qm_iconst E_X8_goesOn 0 (by decide) dX8_goesOn_41 ?_
      refine qm_iast E_X8_goesOn 67 (by decide) rfl o6 dX8_goesOn_42 ?_
      refine qm_iinc E_X8_goesOn (-1) rfl (by decide) (by decide) dX8_goesOn_43 ?_
      refine qm_aload_n E_X8_goesOn (by rfl) dX8_goesOn_46 ?_
      refine qm_get E_X8_goesOn rfl 67 (by decide) q1724 (v := .ref (M.2.2.2 67)) rfl dX8_goesOn_47 ?_
      refine qm_iload_n E_X8_goesOn (by rfl) dX8_goesOn_50 ?_
      refine qm_dup2 E_X8_goesOn rfl rfl dX8_goesOn_51 ?_
      obtain ⟨o9, h⟩ := h
      refine qm_ialdV (k := 67) ((upd (S4.2 67) x3.toNatClampNeg 0) (x3 + (-1)).toNatClampNeg) (by simp only [qm_uA_s]) E_X8_goesOn (by decide) rfl o9 dX8_goesOn_52 ?_
      refine qm_iconst E_X8_goesOn 1 (by decide) dX8_goesOn_53 ?_
      refine qm_iadd E_X8_goesOn dX8_goesOn_54 ?_
      refine qm_iast E_X8_goesOn 67 (by decide) rfl o9 dX8_goesOn_55 ?_
      refine qm_goto E_X8_goesOn 17 dX8_goesOn_56 (by decide) ?_
      exact h
def I_X8_rankOf : qh_I := (yX8_rankOf, cX8_rankOf, 1, (Option.some Jvm.ClassFile.FieldType.int), [])
theorem E_X8_rankOf : I_X8_rankOf.2.1 = cX8_rankOf := rfl
theorem M_X8_rankOf : qh_M I_X8_rankOf 1 := ⟨by decide, by decide, by decide +kernel, q95, q2244, by decide⟩
def f_X8_rankOf (a1 : Int32) : Int32 := if a1 = 5001 then ((-2000) : Int32) else if a1 = 5000 then ((-1500) : Int32) else a1
set_option maxHeartbeats 4000000 in
theorem C_X8_rankOf {M : qm_G} {d : Nat} (a1 : Int32) (S : qm_S) (Q : Option Value → qm_S → Prop) (hq : Q (some (.int (f_X8_rankOf a1))) S) : qm_C M (d + 0) I_X8_rankOf [.int a1] S Q := by
  refine qm_C.of (by decide) rfl (ls := [some (.int a1)]) rfl (Nat.le_of_ble_eq_true rfl) (qm_ct rfl) ?_
  unfold f_X8_rankOf at hq
  refine qm_iload_n E_X8_rankOf (by rfl) dX8_rankOf_0 ?_
  refine qm_sipush E_X8_rankOf 5001 (by decide) dX8_rankOf_1 ?_
  refine qm_icmp_ne E_X8_rankOf 13 dX8_rankOf_4 (by decide) (fun (c1 : ¬ a1 = 5001) => ?_) (fun (c1 : a1 = 5001) => ?_)
  · rw [if_neg c1] at hq
    refine qm_iload_n E_X8_rankOf (by rfl) dX8_rankOf_13 ?_
    refine qm_sipush E_X8_rankOf 5000 (by decide) dX8_rankOf_14 ?_
    refine qm_icmp_ne E_X8_rankOf 26 dX8_rankOf_17 (by decide) (fun (c2 : ¬ a1 = 5000) => ?_) (fun (c2 : a1 = 5000) => ?_)
    · rw [if_neg c2] at hq
      refine qm_iload_n E_X8_rankOf (by rfl) dX8_rankOf_26 ?_
      exact qm_iret E_X8_rankOf rfl dX8_rankOf_27 hq
    · rw [if_pos c2] at hq
      refine qm_sipush E_X8_rankOf (-1500) (by decide) dX8_rankOf_20 ?_
      refine qm_goto E_X8_rankOf 27 dX8_rankOf_23 (by decide) ?_
      exact qm_iret E_X8_rankOf rfl dX8_rankOf_27 hq
  · rw [if_pos c1] at hq
    refine qm_sipush E_X8_rankOf (-2000) (by decide) dX8_rankOf_7 ?_
    refine qm_goto E_X8_rankOf 27 dX8_rankOf_10 (by decide) ?_
    exact qm_iret E_X8_rankOf rfl dX8_rankOf_27 hq
def I_X8_makesGroups : qh_I := (yX8_makesGroups, cX8_makesGroups, 5, (Option.none : Option Jvm.ClassFile.FieldType), [])
theorem E_X8_makesGroups : I_X8_makesGroups.2.1 = cX8_makesGroups := rfl
theorem M_X8_makesGroups : qh_M I_X8_makesGroups 0 := ⟨by decide, by decide, by decide +kernel, q95, q2241, by decide⟩
def T_X8_makesGroups (S : qm_S) (K : qm_S → Prop) : Prop := ∀ X1 : Int32 → qm_S → Prop, (∀ (x2 : Int32) (S3 : qm_S), (((S3.1 71) ≤ x2 → K S3) ∧ (¬ (S3.1 71) ≤ x2 → ((S3.1 37) ≤ x2 → K S3) ∧ (¬ (S3.1 37) ≤ x2 → ∀ X6 : Int32 → qm_S → Prop, (∀ (x7 : Int32) (S8 : qm_S), (((S8.1 71) ≤ x7 → X1 (x2 + 1) S8) ∧ (¬ (S8.1 71) ≤ x7 → ∀ X10 : Int32 → Int32 → Prop, (∀ (x11 x12 : Int32), (((S8.1 71) ≤ x12 → (¬ x11 = x2 → X6 (x7 + 1) S8) ∧ (x11 = x2 → vp_in x7 (qm_len 72) ∧ vp_in (3 * x2) (qm_len 70) ∧ vp_in x7 (qm_len 73) ∧ vp_in ((3 * x2) + 1) (qm_len 70) ∧ vp_in x7 (qm_len 74) ∧ vp_in ((3 * x2) + 2) (qm_len 70) ∧ X6 (x7 + 1) ((upd S8.1 68 (x2 + 1), qm_uA (qm_uA (qm_uA S8.2 70 (upd (S8.2 70) (3 * x2).toNatClampNeg (S8.2 72 x7.toNatClampNeg))) 70 (upd (upd (S8.2 70) (3 * x2).toNatClampNeg (S8.2 72 x7.toNatClampNeg)) ((3 * x2) + 1).toNatClampNeg (S8.2 73 x7.toNatClampNeg))) 70 (upd (upd (upd (S8.2 70) (3 * x2).toNatClampNeg (S8.2 72 x7.toNatClampNeg)) ((3 * x2) + 1).toNatClampNeg (S8.2 73 x7.toNatClampNeg)) ((3 * x2) + 2).toNatClampNeg (S8.2 74 x7.toNatClampNeg)))))) ∧ (¬ (S8.1 71) ≤ x12 → vp_in x12 (qm_len 72) ∧ vp_in x7 (qm_len 72) ∧ ((f_X8_rankOf (S8.2 72 x7.toNatClampNeg)) ≤ (f_X8_rankOf (S8.2 72 x12.toNatClampNeg)) → X10 (x11 + 0) (x12 + 1)) ∧ (¬ (f_X8_rankOf (S8.2 72 x7.toNatClampNeg)) ≤ (f_X8_rankOf (S8.2 72 x12.toNatClampNeg)) → X10 (x11 + 1) (x12 + 1)))) → X10 x11 x12) → X10 0 0)) → X6 x7 S8) → X6 0 S3))) → X1 x2 S3) → X1 0 ((upd S.1 68 0, S.2))
set_option maxHeartbeats 4000000 in
theorem C_X8_makesGroups {M : qm_G} {d : Nat} (S : qm_S) (K : qm_S → Prop) (h : T_X8_makesGroups  S K) : qm_C M (d + 1) I_X8_makesGroups [.ref M.2.2.1] S (fun v S' => v = none ∧ K S') := by
  refine qm_C.of (by decide) rfl (ls := [some (.ref M.2.2.1), none, none, none, none]) rfl (Nat.le_of_ble_eq_true rfl) (qm_ct rfl) ?_
  unfold T_X8_makesGroups at h
  refine qm_aload_n E_X8_makesGroups (by rfl) dX8_makesGroups_0 ?_
  refine qm_iconst E_X8_makesGroups 0 (by decide) dX8_makesGroups_1 ?_
  refine qm_put E_X8_makesGroups rfl 68 (by decide) q1725 rfl rfl rfl (qm_set68) dX8_makesGroups_2 ?_
  refine qm_iconst E_X8_makesGroups 0 (by decide) dX8_makesGroups_5 ?_
  refine qm_istore_n E_X8_makesGroups (by decide) dX8_makesGroups_6 ?_
  refine h (fun x2 S3 => qm_wp M (d + 1) I_X8_makesGroups 7 [some (.ref M.2.2.1), some (.int x2), none, none, none] [] S3 (fun v S' => v = none ∧ K S')) ?_
  intro x2 S3 h
  refine qm_iload_n E_X8_makesGroups (by rfl) dX8_makesGroups_7 ?_
  refine qm_aload_n E_X8_makesGroups (by rfl) dX8_makesGroups_8 ?_
  refine qm_get E_X8_makesGroups rfl 71 (by decide) q1728 (v := .int (S3.1 71)) rfl dX8_makesGroups_9 ?_
  refine qm_icmp_ge E_X8_makesGroups 153 dX8_makesGroups_12 (by decide) (fun (c4 : (S3.1 71) ≤ x2) => ?_) (fun (c4 : ¬ (S3.1 71) ≤ x2) => ?_)
  · have h := h.1 c4
    exact qm_vret E_X8_makesGroups rfl dX8_makesGroups_153 ⟨rfl, h⟩
  · have h := h.2 c4
    refine qm_iload_n E_X8_makesGroups (by rfl) dX8_makesGroups_15 ?_
    refine qm_aload_n E_X8_makesGroups (by rfl) dX8_makesGroups_16 ?_
    refine qm_get E_X8_makesGroups rfl 37 (by decide) q1694 (v := .int (S3.1 37)) rfl dX8_makesGroups_17 ?_
    refine qm_icmp_ge E_X8_makesGroups 153 dX8_makesGroups_20 (by decide) (fun (c5 : (S3.1 37) ≤ x2) => ?_) (fun (c5 : ¬ (S3.1 37) ≤ x2) => ?_)
    · have h := h.1 c5
      exact qm_vret E_X8_makesGroups rfl dX8_makesGroups_153 ⟨rfl, h⟩
    · have h := h.2 c5
      refine qm_iconst E_X8_makesGroups 0 (by decide) dX8_makesGroups_23 ?_
      refine qm_istore_n E_X8_makesGroups (by decide) dX8_makesGroups_24 ?_
      refine h (fun x7 S8 => qm_wp M (d + 1) I_X8_makesGroups 25 [some (.ref M.2.2.1), some (.int x2), some (.int x7), none, none] [] S8 (fun v S' => v = none ∧ K S')) ?_
      intro x7 S8 h
      refine qm_iload_n E_X8_makesGroups (by rfl) dX8_makesGroups_25 ?_
      refine qm_aload_n E_X8_makesGroups (by rfl) dX8_makesGroups_26 ?_
      refine qm_get E_X8_makesGroups rfl 71 (by decide) q1728 (v := .int (S8.1 71)) rfl dX8_makesGroups_27 ?_
      refine qm_icmp_ge E_X8_makesGroups 147 dX8_makesGroups_30 (by decide) (fun (c9 : (S8.1 71) ≤ x7) => ?_) (fun (c9 : ¬ (S8.1 71) ≤ x7) => ?_)
      · have h := h.1 c9
        refine qm_iinc E_X8_makesGroups 1 rfl (by decide) (by decide) dX8_makesGroups_147 ?_
        refine qm_goto E_X8_makesGroups 7 dX8_makesGroups_150 (by decide) ?_
        refine qm_drop 2 ?_
        exact h
      · have h := h.2 c9
        refine qm_iconst E_X8_makesGroups 0 (by decide) dX8_makesGroups_33 ?_
        refine qm_istore_n E_X8_makesGroups (by decide) dX8_makesGroups_34 ?_
        refine qm_iconst E_X8_makesGroups 0 (by decide) dX8_makesGroups_35 ?_
        refine qm_istore E_X8_makesGroups (by decide) dX8_makesGroups_36 ?_
        refine h (fun x11 x12 => qm_wp M (d + 1) I_X8_makesGroups 38 [some (.ref M.2.2.1), some (.int x2), some (.int x7), some (.int x11), some (.int x12)] [] S8 (fun v S' => v = none ∧ K S')) ?_
        intro x11 x12 h
        refine qm_iload E_X8_makesGroups (by rfl) dX8_makesGroups_38 ?_
        refine qm_aload_n E_X8_makesGroups (by rfl) dX8_makesGroups_40 ?_
        refine qm_get E_X8_makesGroups rfl 71 (by decide) q1728 (v := .int (S8.1 71)) rfl dX8_makesGroups_41 ?_
        refine qm_icmp_ge E_X8_makesGroups 83 dX8_makesGroups_44 (by decide) (fun (c13 : (S8.1 71) ≤ x12) => ?_) (fun (c13 : ¬ (S8.1 71) ≤ x12) => ?_)
        · have h := h.1 c13
          refine qm_iload_n E_X8_makesGroups (by rfl) dX8_makesGroups_83 ?_
          refine qm_iload_n E_X8_makesGroups (by rfl) dX8_makesGroups_84 ?_
          refine qm_icmp_ne E_X8_makesGroups 141 dX8_makesGroups_85 (by decide) (fun (c14 : ¬ x11 = x2) => ?_) (fun (c14 : x11 = x2) => ?_)
          · have h := h.1 c14
            refine qm_iinc E_X8_makesGroups 1 rfl (by decide) (by decide) dX8_makesGroups_141 ?_
            refine qm_goto E_X8_makesGroups 25 dX8_makesGroups_144 (by decide) ?_
            refine qm_drop 3 ?_
            refine qm_drop 4 ?_
            exact h
          · have h := h.2 c14
            refine qm_aload_n E_X8_makesGroups (by rfl) dX8_makesGroups_88 ?_
            refine qm_get E_X8_makesGroups rfl 70 (by decide) q1727 (v := .ref (M.2.2.2 70)) rfl dX8_makesGroups_89 ?_
            refine qm_iconst E_X8_makesGroups 3 (by decide) dX8_makesGroups_92 ?_
            refine qm_iload_n E_X8_makesGroups (by rfl) dX8_makesGroups_93 ?_
            refine qm_imul E_X8_makesGroups dX8_makesGroups_94 ?_
            refine qm_aload_n E_X8_makesGroups (by rfl) dX8_makesGroups_95 ?_
            refine qm_get E_X8_makesGroups rfl 72 (by decide) q1729 (v := .ref (M.2.2.2 72)) rfl dX8_makesGroups_96 ?_
            refine qm_iload_n E_X8_makesGroups (by rfl) dX8_makesGroups_99 ?_
            obtain ⟨o15, h⟩ := h
            refine qm_iald E_X8_makesGroups 72 (by decide) rfl o15 dX8_makesGroups_100 ?_
            obtain ⟨o16, h⟩ := h
            refine qm_iast E_X8_makesGroups 70 (by decide) rfl o16 dX8_makesGroups_101 ?_
            refine qm_aload_n E_X8_makesGroups (by rfl) dX8_makesGroups_102 ?_
            refine qm_get E_X8_makesGroups rfl 70 (by decide) q1727 (v := .ref (M.2.2.2 70)) rfl dX8_makesGroups_103 ?_
            refine qm_iconst E_X8_makesGroups 3 (by decide) dX8_makesGroups_106 ?_
            refine qm_iload_n E_X8_makesGroups (by rfl) dX8_makesGroups_107 ?_
            refine qm_imul E_X8_makesGroups dX8_makesGroups_108 ?_
            refine qm_iconst E_X8_makesGroups 1 (by decide) dX8_makesGroups_109 ?_
            refine qm_iadd E_X8_makesGroups dX8_makesGroups_110 ?_
            refine qm_aload_n E_X8_makesGroups (by rfl) dX8_makesGroups_111 ?_
            refine qm_get E_X8_makesGroups rfl 73 (by decide) q1730 (v := .ref (M.2.2.2 73)) rfl dX8_makesGroups_112 ?_
            refine qm_iload_n E_X8_makesGroups (by rfl) dX8_makesGroups_115 ?_
            obtain ⟨o17, h⟩ := h
            refine qm_iald E_X8_makesGroups 73 (by decide) rfl o17 dX8_makesGroups_116 ?_
            obtain ⟨o18, h⟩ := h
            refine qm_iast E_X8_makesGroups 70 (by decide) rfl o18 dX8_makesGroups_117 ?_
            refine qm_aload_n E_X8_makesGroups (by rfl) dX8_makesGroups_118 ?_
            refine qm_get E_X8_makesGroups rfl 70 (by decide) q1727 (v := .ref (M.2.2.2 70)) rfl dX8_makesGroups_119 ?_
            refine qm_iconst E_X8_makesGroups 3 (by decide) dX8_makesGroups_122 ?_
            refine qm_iload_n E_X8_makesGroups (by rfl) dX8_makesGroups_123 ?_
            refine qm_imul E_X8_makesGroups dX8_makesGroups_124 ?_
            refine qm_iconst E_X8_makesGroups 2 (by decide) dX8_makesGroups_125 ?_
            refine qm_iadd E_X8_makesGroups dX8_makesGroups_126 ?_
            refine qm_aload_n E_X8_makesGroups (by rfl) dX8_makesGroups_127 ?_
            refine qm_get E_X8_makesGroups rfl 74 (by decide) q1731 (v := .ref (M.2.2.2 74)) rfl dX8_makesGroups_128 ?_
            refine qm_iload_n E_X8_makesGroups (by rfl) dX8_makesGroups_131 ?_
            obtain ⟨o19, h⟩ := h
            refine qm_iald E_X8_makesGroups 74 (by decide) rfl o19 dX8_makesGroups_132 ?_
            obtain ⟨o20, h⟩ := h
            refine qm_iast E_X8_makesGroups 70 (by decide) rfl o20 dX8_makesGroups_133 ?_
            refine qm_aload_n E_X8_makesGroups (by rfl) dX8_makesGroups_134 ?_
            refine qm_iload_n E_X8_makesGroups (by rfl) dX8_makesGroups_135 ?_
            refine qm_iconst E_X8_makesGroups 1 (by decide) dX8_makesGroups_136 ?_
            refine qm_iadd E_X8_makesGroups dX8_makesGroups_137 ?_
            refine qm_put E_X8_makesGroups rfl 68 (by decide) q1725 rfl rfl rfl (qm_set68) dX8_makesGroups_138 ?_
            refine qm_iinc E_X8_makesGroups 1 rfl (by decide) (by decide) dX8_makesGroups_141 ?_
            refine qm_goto E_X8_makesGroups 25 dX8_makesGroups_144 (by decide) ?_
            refine qm_drop 3 ?_
            refine qm_drop 4 ?_
            exact h
        · have h := h.2 c13
          refine qm_iload_n E_X8_makesGroups (by rfl) dX8_makesGroups_47 ?_
          refine qm_aload_n E_X8_makesGroups (by rfl) dX8_makesGroups_48 ?_
          refine qm_get E_X8_makesGroups rfl 72 (by decide) q1729 (v := .ref (M.2.2.2 72)) rfl dX8_makesGroups_49 ?_
          refine qm_iload E_X8_makesGroups (by rfl) dX8_makesGroups_52 ?_
          obtain ⟨o21, h⟩ := h
          refine qm_iald E_X8_makesGroups 72 (by decide) rfl o21 dX8_makesGroups_54 ?_
          refine qm_callS (As := [.int (S8.2 72 x12.toNatClampNeg)]) (rest := [.int x11]) E_X8_makesGroups rfl M_X8_rankOf rfl q2242 q2243 rfl rfl (Nat.le_of_ble_eq_true rfl) dX8_makesGroups_55 (C_X8_rankOf (d := d) (S8.2 72 x12.toNatClampNeg) S8 _ ?_)
          refine qm_aload_n E_X8_makesGroups (by rfl) dX8_makesGroups_58 ?_
          refine qm_get E_X8_makesGroups rfl 72 (by decide) q1729 (v := .ref (M.2.2.2 72)) rfl dX8_makesGroups_59 ?_
          refine qm_iload_n E_X8_makesGroups (by rfl) dX8_makesGroups_62 ?_
          obtain ⟨o22, h⟩ := h
          refine qm_iald E_X8_makesGroups 72 (by decide) rfl o22 dX8_makesGroups_63 ?_
          refine qm_callS (As := [.int (S8.2 72 x7.toNatClampNeg)]) (rest := [.int (f_X8_rankOf (S8.2 72 x12.toNatClampNeg)), .int x11]) E_X8_makesGroups rfl M_X8_rankOf rfl q2242 q2243 rfl rfl (Nat.le_of_ble_eq_true rfl) dX8_makesGroups_64 (C_X8_rankOf (d := d) (S8.2 72 x7.toNatClampNeg) S8 _ ?_)
          refine qm_icmp_ge E_X8_makesGroups 74 dX8_makesGroups_67 (by decide) (fun (c23 : (f_X8_rankOf (S8.2 72 x7.toNatClampNeg)) ≤ (f_X8_rankOf (S8.2 72 x12.toNatClampNeg))) => ?_) (fun (c23 : ¬ (f_X8_rankOf (S8.2 72 x7.toNatClampNeg)) ≤ (f_X8_rankOf (S8.2 72 x12.toNatClampNeg))) => ?_)
          · have h := h.1 c23
            refine qm_iconst E_X8_makesGroups 0 (by decide) dX8_makesGroups_74 ?_
            refine qm_iadd E_X8_makesGroups dX8_makesGroups_75 ?_
            refine qm_istore_n E_X8_makesGroups (by decide) dX8_makesGroups_76 ?_
            refine qm_iinc E_X8_makesGroups 1 rfl (by decide) (by decide) dX8_makesGroups_77 ?_
            refine qm_goto E_X8_makesGroups 38 dX8_makesGroups_80 (by decide) ?_
            exact h
          · have h := h.2 c23
            refine qm_iconst E_X8_makesGroups 1 (by decide) dX8_makesGroups_70 ?_
            refine qm_goto E_X8_makesGroups 75 dX8_makesGroups_71 (by decide) ?_
            refine qm_iadd E_X8_makesGroups dX8_makesGroups_75 ?_
            refine qm_istore_n E_X8_makesGroups (by decide) dX8_makesGroups_76 ?_
            refine qm_iinc E_X8_makesGroups 1 rfl (by decide) (by decide) dX8_makesGroups_77 ?_
            refine qm_goto E_X8_makesGroups 38 dX8_makesGroups_80 (by decide) ?_
            exact h
def I_X8_makes : qh_I := (yX8_makes, cX8_makes, 5, (Option.none : Option Jvm.ClassFile.FieldType), [])
theorem E_X8_makes : I_X8_makes.2.1 = cX8_makes := rfl
theorem M_X8_makes : qh_M I_X8_makes 1 := ⟨by decide, by decide, by decide +kernel, q95, q2213, by decide⟩
def T_X8_makes (a1 : Int32) (S : qm_S) (K : qm_S → Prop) : Prop := ∀ X1 : Int32 → Int32 → qm_S → Prop, (∀ (x2 x3 : Int32) (S4 : qm_S), (((S4.1 22) ≤ x3 → ∀ X8 : Int32 → qm_S → Prop, (∀ (x9 : Int32) (S10 : qm_S), ((x9 = 0 → ((S10.1 38) = 0 → K S10) ∧ (¬ (S10.1 38) = 0 → T_X8_makesGroups S10 (fun S13 => K S13))) ∧ (¬ x9 = 0 → T_X8_areLinked S10 (fun r14 => ∀ J27 : qm_S → Prop, (∀ (S28 : qm_S), (T_X8_goesOn S28 (fun r29 S31 => X8 r29 S31)) → J27 S28) → (r14 = 0 → T_X8_areLinked S10 (fun r17 => (r17 = 0 → J27 S10) ∧ (¬ r17 = 0 → T_X8_addsMatch S10 (fun S20 => J27 S20)))) ∧ (¬ r14 = 0 → ((S10.1 38) = 0 → T_X8_areLinked S10 (fun r22 => (r22 = 0 → J27 S10) ∧ (¬ r22 = 0 → T_X8_addsMatch S10 (fun S25 => J27 S25)))) ∧ (¬ (S10.1 38) = 0 → T_X8_addsToGroup S10 (fun S26 => J27 S26)))))) → X8 x9 S10) → X8 x2 ((upd (upd (upd S4.1 68 0) 71 0) 69 ((if (S4.1 38) = 0 then S4.1 34 else (3 : Int32))), S4.2))) ∧ (¬ (S4.1 22) ≤ x3 → vp_in x3 (qm_len 65) ∧ vp_in x3 (qm_len 67) ∧ ∀ X34 : Int32 → qm_S → Prop, (∀ (x35 : Int32) (S36 : qm_S), (((a1 = 0 → vp_in x3 (qm_len 23) ∧ vp_in (S36.2 23 x3.toNatClampNeg) (qm_len 1)) ∧ (¬ a1 = 0 → vp_in x3 (qm_len 57))) ∧ (((if a1 = 0 then S36.2 1 (S36.2 23 x3.toNatClampNeg).toNatClampNeg else S36.2 57 x3.toNatClampNeg)) ≤ x35 → (x2 = 0 → X1 0 (x3 + 1) S36) ∧ (¬ x2 = 0 → ((S36.2 65 x3.toNatClampNeg) ≤ 0 → X1 0 (x3 + 1) S36) ∧ (¬ (S36.2 65 x3.toNatClampNeg) ≤ 0 → X1 1 (x3 + 1) S36))) ∧ (¬ ((if a1 = 0 then S36.2 1 (S36.2 23 x3.toNatClampNeg).toNatClampNeg else S36.2 57 x3.toNatClampNeg)) ≤ x35 → T_X8_laysRow x3 a1 x35 S36 (fun S45 => X34 (x35 + 1) S45))) → X34 x35 S36) → X34 0 ((S4.1, qm_uA (qm_uA S4.2 65 (upd (S4.2 65) x3.toNatClampNeg 0)) 67 (upd (S4.2 67) x3.toNatClampNeg 0))))) → X1 x2 x3 S4) → X1 1 0 S
set_option maxHeartbeats 4000000 in
theorem C_X8_makes {M : qm_G} {d : Nat} (a1 : Int32) (S : qm_S) (K : qm_S → Prop) (h : T_X8_makes a1 S K) : qm_C M (d + 4) I_X8_makes [.ref M.2.2.1, .int a1] S (fun v S' => v = none ∧ K S') := by
  refine qm_C.of (by decide) rfl (ls := [some (.ref M.2.2.1), some (.int a1), none, none, none]) rfl (Nat.le_of_ble_eq_true rfl) (qm_ct rfl) ?_
  unfold T_X8_makes at h
  refine qm_iconst E_X8_makes 1 (by decide) dX8_makes_0 ?_
  refine qm_istore_n E_X8_makes (by decide) dX8_makes_1 ?_
  refine qm_iconst E_X8_makes 0 (by decide) dX8_makes_2 ?_
  refine qm_istore_n E_X8_makes (by decide) dX8_makes_3 ?_
  refine h (fun x2 x3 S4 => qm_wp M (d + 4) I_X8_makes 4 [some (.ref M.2.2.1), some (.int a1), some (.int x2), some (.int x3), none] [] S4 (fun v S' => v = none ∧ K S')) ?_
  intro x2 x3 S4 h
  refine qm_iload_n E_X8_makes (by rfl) dX8_makes_4 ?_
  refine qm_aload_n E_X8_makes (by rfl) dX8_makes_5 ?_
  refine qm_get E_X8_makes rfl 22 (by decide) q1679 (v := .int (S4.1 22)) rfl dX8_makes_6 ?_
  refine qm_icmp_ge E_X8_makes 97 dX8_makes_9 (by decide) (fun (c5 : (S4.1 22) ≤ x3) => ?_) (fun (c5 : ¬ (S4.1 22) ≤ x3) => ?_)
  · have h := h.1 c5
    refine qm_aload_n E_X8_makes (by rfl) dX8_makes_97 ?_
    refine qm_iconst E_X8_makes 0 (by decide) dX8_makes_98 ?_
    refine qm_put E_X8_makes rfl 68 (by decide) q1725 rfl rfl rfl (qm_set68) dX8_makes_99 ?_
    refine qm_aload_n E_X8_makes (by rfl) dX8_makes_102 ?_
    refine qm_iconst E_X8_makes 0 (by decide) dX8_makes_103 ?_
    refine qm_put E_X8_makes rfl 71 (by decide) q1728 rfl rfl rfl (qm_set71) dX8_makes_104 ?_
    refine qm_aload_n E_X8_makes (by rfl) dX8_makes_107 ?_
    refine qm_aload_n E_X8_makes (by rfl) dX8_makes_108 ?_
    refine qm_get E_X8_makes rfl 38 (by decide) q1695 (v := .int (S4.1 38)) rfl dX8_makes_109 ?_
    have Jv7 : ∀ v7 : Int32, v7 = (if (S4.1 38) = 0 then S4.1 34 else (3 : Int32)) → qm_wp M (d + 4) I_X8_makes 123 [some (.ref M.2.2.1), some (.int a1), some (.int x2), some (.int x3), none] [.int v7, .ref M.2.2.1] (upd (upd S4.1 68 0) 71 0, S4.2) (fun v S' => v = none ∧ K S') := by
      rintro _ rfl
      refine qm_put E_X8_makes rfl 69 (by decide) q1726 rfl rfl rfl (qm_set69) dX8_makes_123 ?_
      refine h (fun x9 S10 => qm_wp M (d + 4) I_X8_makes 126 [some (.ref M.2.2.1), some (.int a1), some (.int x9), some (.int x3), none] [] S10 (fun v S' => v = none ∧ K S')) ?_
      intro x9 S10 h
      refine qm_iload_n E_X8_makes (by rfl) dX8_makes_126 ?_
      refine qm_if_eq E_X8_makes 170 dX8_makes_127 (by decide) (fun (c11 : x9 = 0) => ?_) (fun (c11 : ¬ x9 = 0) => ?_)
      · have h := h.1 c11
        refine qm_aload_n E_X8_makes (by rfl) dX8_makes_170 ?_
        refine qm_get E_X8_makes rfl 38 (by decide) q1695 (v := .int (S10.1 38)) rfl dX8_makes_171 ?_
        refine qm_if_eq E_X8_makes 181 dX8_makes_174 (by decide) (fun (c12 : (S10.1 38) = 0) => ?_) (fun (c12 : ¬ (S10.1 38) = 0) => ?_)
        · have h := h.1 c12
          exact qm_vret E_X8_makes rfl dX8_makes_181 ⟨rfl, h⟩
        · have h := h.2 c12
          refine qm_aload_n E_X8_makes (by rfl) dX8_makes_177 ?_
          refine qm_callV (As := []) (rest := []) E_X8_makes rfl M_X8_makesGroups rfl q2238 q2240 qs78 rfl rfl rfl (Nat.le_of_ble_eq_true rfl) dX8_makes_178 (qm_C.mono ?_ (C_X8_makesGroups (d := d + 2)  S10 _ h))
          rintro _ S13 ⟨rfl, h⟩
          exact qm_vret E_X8_makes rfl dX8_makes_181 ⟨rfl, h⟩
      · have h := h.2 c11
        refine qm_aload_n E_X8_makes (by rfl) dX8_makes_130 ?_
        refine qm_callV (As := []) (rest := []) E_X8_makes rfl M_X8_areLinked rfl q2218 q2220 qs73 rfl rfl rfl (Nat.le_of_ble_eq_true rfl) dX8_makes_131 (qm_C.mono ?_ (C_X8_areLinked (d := d + 1)  S10 _ h))
        rintro _ _ ⟨r14, rfl, z15, rfl, h⟩
        have h := h (fun S28 => qm_wp M (d + 4) I_X8_makes 162 [some (.ref M.2.2.1), some (.int a1), some (.int x9), some (.int x3), none] [] S28 (fun v S' => v = none ∧ K S')) (by
          intro S28 h
          refine qm_aload_n E_X8_makes (by rfl) dX8_makes_162 ?_
          refine qm_callV (As := []) (rest := []) E_X8_makes rfl M_X8_goesOn rfl q2234 q2236 qs77 rfl rfl rfl (Nat.le_of_ble_eq_true rfl) dX8_makes_163 (qm_C.mono ?_ (C_X8_goesOn (d := d + 3)  S28 _ h))
          rintro _ S31 ⟨r29, rfl, z30, h⟩
          refine qm_istore_n E_X8_makes (by decide) dX8_makes_166 ?_
          refine qm_goto E_X8_makes 126 dX8_makes_167 (by decide) ?_
          exact h)
        refine qm_if_eq E_X8_makes 151 dX8_makes_134 (by decide) (fun (c16 : r14 = 0) => ?_) (fun (c16 : ¬ r14 = 0) => ?_)
        · have h := h.1 c16
          refine qm_aload_n E_X8_makes (by rfl) dX8_makes_151 ?_
          refine qm_callV (As := []) (rest := []) E_X8_makes rfl M_X8_areLinked rfl q2218 q2220 qs73 rfl rfl rfl (Nat.le_of_ble_eq_true rfl) dX8_makes_152 (qm_C.mono ?_ (C_X8_areLinked (d := d + 1)  S10 _ h))
          rintro _ _ ⟨r17, rfl, z18, rfl, h⟩
          refine qm_if_eq E_X8_makes 162 dX8_makes_155 (by decide) (fun (c19 : r17 = 0) => ?_) (fun (c19 : ¬ r17 = 0) => ?_)
          · have h := h.1 c19
            exact h
          · have h := h.2 c19
            refine qm_aload_n E_X8_makes (by rfl) dX8_makes_158 ?_
            refine qm_callV (As := []) (rest := []) E_X8_makes rfl M_X8_addsMatch rfl q2230 q2232 qs76 rfl rfl rfl (Nat.le_of_ble_eq_true rfl) dX8_makes_159 (qm_C.mono ?_ (C_X8_addsMatch (d := d + 2)  S10 _ h))
            rintro _ S20 ⟨rfl, h⟩
            exact h
        · have h := h.2 c16
          refine qm_aload_n E_X8_makes (by rfl) dX8_makes_137 ?_
          refine qm_get E_X8_makes rfl 38 (by decide) q1695 (v := .int (S10.1 38)) rfl dX8_makes_138 ?_
          refine qm_if_eq E_X8_makes 151 dX8_makes_141 (by decide) (fun (c21 : (S10.1 38) = 0) => ?_) (fun (c21 : ¬ (S10.1 38) = 0) => ?_)
          · have h := h.1 c21
            refine qm_aload_n E_X8_makes (by rfl) dX8_makes_151 ?_
            refine qm_callV (As := []) (rest := []) E_X8_makes rfl M_X8_areLinked rfl q2218 q2220 qs73 rfl rfl rfl (Nat.le_of_ble_eq_true rfl) dX8_makes_152 (qm_C.mono ?_ (C_X8_areLinked (d := d + 1)  S10 _ h))
            rintro _ _ ⟨r22, rfl, z23, rfl, h⟩
            refine qm_if_eq E_X8_makes 162 dX8_makes_155 (by decide) (fun (c24 : r22 = 0) => ?_) (fun (c24 : ¬ r22 = 0) => ?_)
            · have h := h.1 c24
              exact h
            · have h := h.2 c24
              refine qm_aload_n E_X8_makes (by rfl) dX8_makes_158 ?_
              refine qm_callV (As := []) (rest := []) E_X8_makes rfl M_X8_addsMatch rfl q2230 q2232 qs76 rfl rfl rfl (Nat.le_of_ble_eq_true rfl) dX8_makes_159 (qm_C.mono ?_ (C_X8_addsMatch (d := d + 2)  S10 _ h))
              rintro _ S25 ⟨rfl, h⟩
              exact h
          · have h := h.2 c21
            refine qm_aload_n E_X8_makes (by rfl) dX8_makes_144 ?_
            refine qm_callV (As := []) (rest := []) E_X8_makes rfl M_X8_addsToGroup rfl q2226 q2228 qs75 rfl rfl rfl (Nat.le_of_ble_eq_true rfl) dX8_makes_145 (qm_C.mono ?_ (C_X8_addsToGroup (d := d + 1)  S10 _ h))
            rintro _ S26 ⟨rfl, h⟩
            refine qm_goto E_X8_makes 162 dX8_makes_148 (by decide) ?_
            exact h
    refine qm_if_eq E_X8_makes 119 dX8_makes_112 (by decide) (fun (c6 : (S4.1 38) = 0) => ?_) (fun (c6 : ¬ (S4.1 38) = 0) => ?_)
    · refine qm_aload_n E_X8_makes (by rfl) dX8_makes_119 ?_
      refine qm_get E_X8_makes rfl 34 (by decide) q1691 (v := .int (S4.1 34)) rfl dX8_makes_120 ?_
      exact Jv7 (S4.1 34) (by rw [if_pos c6])
    · refine qm_iconst E_X8_makes 3 (by decide) dX8_makes_115 ?_
      refine qm_goto E_X8_makes 123 dX8_makes_116 (by decide) ?_
      exact Jv7 ((3 : Int32)) (by rw [if_neg c6])
  · have h := h.2 c5
    refine qm_aload_n E_X8_makes (by rfl) dX8_makes_12 ?_
    refine qm_get E_X8_makes rfl 65 (by decide) q1722 (v := .ref (M.2.2.2 65)) rfl dX8_makes_13 ?_
    refine qm_iload_n E_X8_makes (by rfl) dX8_makes_16 ?_
    refine qm_iconst E_X8_makes 0 (by decide) dX8_makes_17 ?_
    obtain ⟨o32, h⟩ := h
    refine qm_iast E_X8_makes 65 (by decide) rfl o32 dX8_makes_18 ?_
    refine qm_aload_n E_X8_makes (by rfl) dX8_makes_19 ?_
    refine qm_get E_X8_makes rfl 67 (by decide) q1724 (v := .ref (M.2.2.2 67)) rfl dX8_makes_20 ?_
    refine qm_iload_n E_X8_makes (by rfl) dX8_makes_23 ?_
    refine qm_iconst E_X8_makes 0 (by decide) dX8_makes_24 ?_
    obtain ⟨o33, h⟩ := h
    refine qm_iast E_X8_makes 67 (by decide) rfl o33 dX8_makes_25 ?_
    refine qm_iconst E_X8_makes 0 (by decide) dX8_makes_26 ?_
    refine qm_istore E_X8_makes (by decide) dX8_makes_27 ?_
    refine h (fun x35 S36 => qm_wp M (d + 4) I_X8_makes 29 [some (.ref M.2.2.1), some (.int a1), some (.int x2), some (.int x3), some (.int x35)] [] S36 (fun v S' => v = none ∧ K S')) ?_
    intro x35 S36 h
    refine qm_iload E_X8_makes (by rfl) dX8_makes_29 ?_
    refine qm_iload_n E_X8_makes (by rfl) dX8_makes_31 ?_
    obtain ⟨h9, h⟩ := h
    have Jv41 : ∀ v41 : Int32, v41 = (if a1 = 0 then S36.2 1 (S36.2 23 x3.toNatClampNeg).toNatClampNeg else S36.2 57 x3.toNatClampNeg) → qm_wp M (d + 4) I_X8_makes 55 [some (.ref M.2.2.1), some (.int a1), some (.int x2), some (.int x3), some (.int x35)] [.int v41, .int x35] S36 (fun v S' => v = none ∧ K S') := by
      rintro _ rfl
      refine qm_icmp_ge E_X8_makes 72 dX8_makes_55 (by decide) (fun (c42 : ((if a1 = 0 then S36.2 1 (S36.2 23 x3.toNatClampNeg).toNatClampNeg else S36.2 57 x3.toNatClampNeg)) ≤ x35) => ?_) (fun (c42 : ¬ ((if a1 = 0 then S36.2 1 (S36.2 23 x3.toNatClampNeg).toNatClampNeg else S36.2 57 x3.toNatClampNeg)) ≤ x35) => ?_)
      · have h := h.1 c42
        refine qm_iload_n E_X8_makes (by rfl) dX8_makes_72 ?_
        refine qm_if_eq E_X8_makes 89 dX8_makes_73 (by decide) (fun (c43 : x2 = 0) => ?_) (fun (c43 : ¬ x2 = 0) => ?_)
        · have h := h.1 c43
          refine qm_iconst E_X8_makes 0 (by decide) dX8_makes_89 ?_
          refine qm_istore_n E_X8_makes (by decide) dX8_makes_90 ?_
          refine qm_iinc E_X8_makes 1 rfl (by decide) (by decide) dX8_makes_91 ?_
          refine qm_goto E_X8_makes 4 dX8_makes_94 (by decide) ?_
          refine qm_drop 4 ?_
          exact h
        · have h := h.2 c43
          refine qm_aload_n E_X8_makes (by rfl) dX8_makes_76 ?_
          refine qm_get E_X8_makes rfl 65 (by decide) q1722 (v := .ref (M.2.2.2 65)) rfl dX8_makes_77 ?_
          refine qm_iload_n E_X8_makes (by rfl) dX8_makes_80 ?_
          refine qm_iald E_X8_makes 65 (by decide) rfl o32 dX8_makes_81 ?_
          refine qm_if_le E_X8_makes 89 dX8_makes_82 (by decide) (fun (c44 : (S36.2 65 x3.toNatClampNeg) ≤ 0) => ?_) (fun (c44 : ¬ (S36.2 65 x3.toNatClampNeg) ≤ 0) => ?_)
          · have h := h.1 c44
            refine qm_iconst E_X8_makes 0 (by decide) dX8_makes_89 ?_
            refine qm_istore_n E_X8_makes (by decide) dX8_makes_90 ?_
            refine qm_iinc E_X8_makes 1 rfl (by decide) (by decide) dX8_makes_91 ?_
            refine qm_goto E_X8_makes 4 dX8_makes_94 (by decide) ?_
            refine qm_drop 4 ?_
            exact h
          · have h := h.2 c44
            refine qm_iconst E_X8_makes 1 (by decide) dX8_makes_85 ?_
            refine qm_goto E_X8_makes 90 dX8_makes_86 (by decide) ?_
            refine qm_istore_n E_X8_makes (by decide) dX8_makes_90 ?_
            refine qm_iinc E_X8_makes 1 rfl (by decide) (by decide) dX8_makes_91 ?_
            refine qm_goto E_X8_makes 4 dX8_makes_94 (by decide) ?_
            refine qm_drop 4 ?_
            exact h
      · have h := h.2 c42
        refine qm_aload_n E_X8_makes (by rfl) dX8_makes_58 ?_
        refine qm_iload_n E_X8_makes (by rfl) dX8_makes_59 ?_
        refine qm_iload_n E_X8_makes (by rfl) dX8_makes_60 ?_
        refine qm_iload E_X8_makes (by rfl) dX8_makes_61 ?_
        refine qm_callV (As := [.int x3, .int a1, .int x35]) (rest := []) E_X8_makes rfl M_X8_laysRow rfl q2214 q2216 qs72 rfl rfl rfl (Nat.le_of_ble_eq_true rfl) dX8_makes_63 (qm_C.mono ?_ (C_X8_laysRow (d := d) x3 a1 x35 S36 _ h))
        rintro _ S45 ⟨rfl, h⟩
        refine qm_iinc E_X8_makes 1 rfl (by decide) (by decide) dX8_makes_66 ?_
        refine qm_goto E_X8_makes 29 dX8_makes_69 (by decide) ?_
        exact h
    have h := h9
    refine qm_if_eq E_X8_makes 44 dX8_makes_32 (by decide) (fun (c37 : a1 = 0) => ?_) (fun (c37 : ¬ a1 = 0) => ?_)
    · have h := h.1 c37
      refine qm_aload_n E_X8_makes (by rfl) dX8_makes_44 ?_
      refine qm_get E_X8_makes rfl 1 (by decide) q1658 (v := .ref (M.2.2.2 1)) rfl dX8_makes_45 ?_
      refine qm_aload_n E_X8_makes (by rfl) dX8_makes_48 ?_
      refine qm_get E_X8_makes rfl 23 (by decide) q1680 (v := .ref (M.2.2.2 23)) rfl dX8_makes_49 ?_
      refine qm_iload_n E_X8_makes (by rfl) dX8_makes_52 ?_
      obtain ⟨o38, h⟩ := h
      refine qm_iald E_X8_makes 23 (by decide) rfl o38 dX8_makes_53 ?_
      have o39 := h
      refine qm_iald E_X8_makes 1 (by decide) rfl o39 dX8_makes_54 ?_
      exact Jv41 (S36.2 1 (S36.2 23 x3.toNatClampNeg).toNatClampNeg) (by rw [if_pos c37])
    · have h := h.2 c37
      refine qm_aload_n E_X8_makes (by rfl) dX8_makes_35 ?_
      refine qm_get E_X8_makes rfl 57 (by decide) q1714 (v := .ref (M.2.2.2 57)) rfl dX8_makes_36 ?_
      refine qm_iload_n E_X8_makes (by rfl) dX8_makes_39 ?_
      have o40 := h
      refine qm_iald E_X8_makes 57 (by decide) rfl o40 dX8_makes_40 ?_
      refine qm_goto E_X8_makes 55 dX8_makes_41 (by decide) ?_
      exact Jv41 (S36.2 57 x3.toNatClampNeg) (by rw [if_neg c37])
def I_X8_claimed : qh_I := (yX8_claimed, cX8_claimed, 4, (Option.some Jvm.ClassFile.FieldType.int), [])
theorem E_X8_claimed : I_X8_claimed.2.1 = cX8_claimed := rfl
theorem M_X8_claimed : qh_M I_X8_claimed 0 := ⟨by decide, by decide, by decide +kernel, q95, q2248, by decide⟩
def T_X8_claimed (S : qm_S) (K : Int32 → Prop) : Prop := ∀ X1 : Int32 → Int32 → Int32 → Prop, (∀ (x2 x3 x4 : Int32), (((S.1 22) ≤ x4 → (¬ (S.1 78) = 0 → K ((-1))) ∧ ((S.1 78) = 0 → (x3 < x2 → K ((-1))) ∧ (¬ x3 < x2 → K x3))) ∧ (¬ (S.1 22) ≤ x4 → vp_in x4 (qm_len 60) ∧ vp_in x4 (qm_len 61) ∧ (x3 ≤ (S.2 61 x4.toNatClampNeg) → X1 ((if (S.2 60 x4.toNatClampNeg) ≤ x2 then x2 else S.2 60 x4.toNatClampNeg)) x3 (x4 + 1)) ∧ (¬ x3 ≤ (S.2 61 x4.toNatClampNeg) → X1 ((if (S.2 60 x4.toNatClampNeg) ≤ x2 then x2 else S.2 60 x4.toNatClampNeg)) (S.2 61 x4.toNatClampNeg) (x4 + 1)))) → X1 x2 x3 x4) → X1 0 (S.1 7) 0
set_option maxHeartbeats 4000000 in
theorem C_X8_claimed {M : qm_G} {d : Nat} (S : qm_S) (K : Int32 → Prop) (h : T_X8_claimed  S K) : qm_C M (d + 0) I_X8_claimed [.ref M.2.2.1] S (fun v S' => ∃ r, v = some (.int r) ∧ S = S' ∧ K r) := by
  refine qm_C.of (by decide) rfl (ls := [some (.ref M.2.2.1), none, none, none]) rfl (Nat.le_of_ble_eq_true rfl) (qm_ct rfl) ?_
  unfold T_X8_claimed at h
  refine qm_iconst E_X8_claimed 0 (by decide) dX8_claimed_0 ?_
  refine qm_istore_n E_X8_claimed (by decide) dX8_claimed_1 ?_
  refine qm_aload_n E_X8_claimed (by rfl) dX8_claimed_2 ?_
  refine qm_get E_X8_claimed rfl 7 (by decide) q1664 (v := .int (S.1 7)) rfl dX8_claimed_3 ?_
  refine qm_istore_n E_X8_claimed (by decide) dX8_claimed_6 ?_
  refine qm_iconst E_X8_claimed 0 (by decide) dX8_claimed_7 ?_
  refine qm_istore_n E_X8_claimed (by decide) dX8_claimed_8 ?_
  refine h (fun x2 x3 x4 => qm_wp M (d + 0) I_X8_claimed 9 [some (.ref M.2.2.1), some (.int x2), some (.int x3), some (.int x4)] [] S (fun v S' => ∃ r, v = some (.int r) ∧ S = S' ∧ K r)) ?_
  intro x2 x3 x4 h
  refine qm_iload_n E_X8_claimed (by rfl) dX8_claimed_9 ?_
  refine qm_aload_n E_X8_claimed (by rfl) dX8_claimed_10 ?_
  refine qm_get E_X8_claimed rfl 22 (by decide) q1679 (v := .int (S.1 22)) rfl dX8_claimed_11 ?_
  refine qm_icmp_ge E_X8_claimed 65 dX8_claimed_14 (by decide) (fun (c5 : (S.1 22) ≤ x4) => ?_) (fun (c5 : ¬ (S.1 22) ≤ x4) => ?_)
  · have h := h.1 c5
    refine qm_aload_n E_X8_claimed (by rfl) dX8_claimed_65 ?_
    refine qm_get E_X8_claimed rfl 78 (by decide) q1735 (v := .int (S.1 78)) rfl dX8_claimed_66 ?_
    refine qm_if_ne E_X8_claimed 81 dX8_claimed_69 (by decide) (fun (c6 : ¬ (S.1 78) = 0) => ?_) (fun (c6 : (S.1 78) = 0) => ?_)
    · have h := h.1 c6
      refine qm_iconst E_X8_claimed (-1) (by decide) dX8_claimed_81 ?_
      exact qm_iret E_X8_claimed rfl dX8_claimed_82 ⟨_, rfl, rfl, h⟩
    · have h := h.2 c6
      refine qm_iload_n E_X8_claimed (by rfl) dX8_claimed_72 ?_
      refine qm_iload_n E_X8_claimed (by rfl) dX8_claimed_73 ?_
      refine qm_icmp_gt E_X8_claimed 81 dX8_claimed_74 (by decide) (fun (c7 : x3 < x2) => ?_) (fun (c7 : ¬ x3 < x2) => ?_)
      · have h := h.1 c7
        refine qm_iconst E_X8_claimed (-1) (by decide) dX8_claimed_81 ?_
        exact qm_iret E_X8_claimed rfl dX8_claimed_82 ⟨_, rfl, rfl, h⟩
      · have h := h.2 c7
        refine qm_iload_n E_X8_claimed (by rfl) dX8_claimed_77 ?_
        refine qm_goto E_X8_claimed 82 dX8_claimed_78 (by decide) ?_
        exact qm_iret E_X8_claimed rfl dX8_claimed_82 ⟨_, rfl, rfl, h⟩
  · have h := h.2 c5
    refine qm_aload_n E_X8_claimed (by rfl) dX8_claimed_17 ?_
    refine qm_get E_X8_claimed rfl 60 (by decide) q1717 (v := .ref (M.2.2.2 60)) rfl dX8_claimed_18 ?_
    refine qm_iload_n E_X8_claimed (by rfl) dX8_claimed_21 ?_
    obtain ⟨o8, h⟩ := h
    refine qm_iald E_X8_claimed 60 (by decide) rfl o8 dX8_claimed_22 ?_
    refine qm_iload_n E_X8_claimed (by rfl) dX8_claimed_23 ?_
    have Jv10 : ∀ v10 : Int32, v10 = (if (S.2 60 x4.toNatClampNeg) ≤ x2 then x2 else S.2 60 x4.toNatClampNeg) → qm_wp M (d + 0) I_X8_claimed 37 [some (.ref M.2.2.1), some (.int x2), some (.int x3), some (.int x4)] [.int v10] S (fun v S' => ∃ r, v = some (.int r) ∧ S = S' ∧ K r) := by
      rintro _ rfl
      refine qm_istore_n E_X8_claimed (by decide) dX8_claimed_37 ?_
      refine qm_aload_n E_X8_claimed (by rfl) dX8_claimed_38 ?_
      refine qm_get E_X8_claimed rfl 61 (by decide) q1718 (v := .ref (M.2.2.2 61)) rfl dX8_claimed_39 ?_
      refine qm_iload_n E_X8_claimed (by rfl) dX8_claimed_42 ?_
      obtain ⟨o11, h⟩ := h
      refine qm_iald E_X8_claimed 61 (by decide) rfl o11 dX8_claimed_43 ?_
      refine qm_iload_n E_X8_claimed (by rfl) dX8_claimed_44 ?_
      refine qm_icmp_ge E_X8_claimed 57 dX8_claimed_45 (by decide) (fun (c12 : x3 ≤ (S.2 61 x4.toNatClampNeg)) => ?_) (fun (c12 : ¬ x3 ≤ (S.2 61 x4.toNatClampNeg)) => ?_)
      · have h := h.1 c12
        refine qm_iload_n E_X8_claimed (by rfl) dX8_claimed_57 ?_
        refine qm_istore_n E_X8_claimed (by decide) dX8_claimed_58 ?_
        refine qm_iinc E_X8_claimed 1 rfl (by decide) (by decide) dX8_claimed_59 ?_
        refine qm_goto E_X8_claimed 9 dX8_claimed_62 (by decide) ?_
        exact h
      · have h := h.2 c12
        refine qm_aload_n E_X8_claimed (by rfl) dX8_claimed_48 ?_
        refine qm_get E_X8_claimed rfl 61 (by decide) q1718 (v := .ref (M.2.2.2 61)) rfl dX8_claimed_49 ?_
        refine qm_iload_n E_X8_claimed (by rfl) dX8_claimed_52 ?_
        refine qm_iald E_X8_claimed 61 (by decide) rfl o11 dX8_claimed_53 ?_
        refine qm_goto E_X8_claimed 58 dX8_claimed_54 (by decide) ?_
        refine qm_istore_n E_X8_claimed (by decide) dX8_claimed_58 ?_
        refine qm_iinc E_X8_claimed 1 rfl (by decide) (by decide) dX8_claimed_59 ?_
        refine qm_goto E_X8_claimed 9 dX8_claimed_62 (by decide) ?_
        exact h
    refine qm_icmp_le E_X8_claimed 36 dX8_claimed_24 (by decide) (fun (c9 : (S.2 60 x4.toNatClampNeg) ≤ x2) => ?_) (fun (c9 : ¬ (S.2 60 x4.toNatClampNeg) ≤ x2) => ?_)
    · refine qm_iload_n E_X8_claimed (by rfl) dX8_claimed_36 ?_
      exact Jv10 (x2) (by rw [if_pos c9])
    · refine qm_aload_n E_X8_claimed (by rfl) dX8_claimed_27 ?_
      refine qm_get E_X8_claimed rfl 60 (by decide) q1717 (v := .ref (M.2.2.2 60)) rfl dX8_claimed_28 ?_
      refine qm_iload_n E_X8_claimed (by rfl) dX8_claimed_31 ?_
      refine qm_iald E_X8_claimed 60 (by decide) rfl o8 dX8_claimed_32 ?_
      refine qm_goto E_X8_claimed 37 dX8_claimed_33 (by decide) ?_
      exact Jv10 (S.2 60 x4.toNatClampNeg) (by rw [if_neg c9])
def I_X8_ask : qh_I := (yX8_ask, cX8_ask, 4, (Option.some Jvm.ClassFile.FieldType.int), [])
theorem E_X8_ask : I_X8_ask.2.1 = cX8_ask := rfl
theorem M_X8_ask : qh_M I_X8_ask 2 := ⟨by decide, by decide, by decide +kernel, q95, q2108, by decide⟩
def T_X8_ask (a1 a2 : Int32) (S : qm_S) (K : Int32 → qm_S → Prop) : Prop := (((if (f_X8_in a1 0 200) = 0 then (1 : Int32) else if (f_X8_in a2 0 200) = 0 then (1 : Int32) else if (f_X8_isDrafted S) = 0 then (2 : Int32) else (0 : Int32))) ≤ 0 → ∀ X6 : Int32 → qm_S → Prop, (∀ (x7 : Int32) (S8 : qm_S), ((3 ≤ x7 → ∀ X10 : qm_S → Prop, (∀ (S11 : qm_S), (((S11.1 22) ≤ (S11.1 83) → T_X8_makes 1 S11 (fun S13 => ∀ X14 : Int32 → qm_S → Prop, (∀ (x15 : Int32) (S16 : qm_S), ((120 ≤ x15 → T_X8_claimed S16 (fun r18 => K (S16.1 75) ((upd S16.1 79 r18, S16.2)))) ∧ (¬ 120 ≤ x15 → vp_in x15 (qm_len 70) ∧ vp_in x15 (qm_len 77) ∧ X14 (x15 + 1) ((S16.1, qm_uA S16.2 77 (upd (S16.2 77) x15.toNatClampNeg (S16.2 70 x15.toNatClampNeg)))))) → X14 x15 S16) → X14 0 ((upd (upd S13.1 75 (S13.1 68)) 76 (S13.1 69), S13.2)))) ∧ (¬ (S11.1 22) ≤ (S11.1 83) → T_X8_nextSeat S11 (fun r22 => T_X8_takes r22 S11 (fun S24 => X10 S24)))) → X10 S11) → X10 S8) ∧ (¬ 3 ≤ x7 → vp_in x7 (qm_len 56) ∧ X6 (x7 + 1) ((S8.1, qm_uA S8.2 56 (upd (S8.2 56) x7.toNatClampNeg 0))))) → X6 x7 S8) → X6 0 ((upd (upd (upd (upd (upd (upd (upd (upd (upd S.1 0 ((if (f_X8_in a1 0 200) = 0 then (1 : Int32) else if (f_X8_in a2 0 200) = 0 then (1 : Int32) else if (f_X8_isDrafted S) = 0 then (2 : Int32) else (0 : Int32)))) 52 (S.1 8)) 53 a1) 54 a2) 78 0) 80 0) 81 0) 82 0) 83 0, S.2))) ∧ (¬ ((if (f_X8_in a1 0 200) = 0 then (1 : Int32) else if (f_X8_in a2 0 200) = 0 then (1 : Int32) else if (f_X8_isDrafted S) = 0 then (2 : Int32) else (0 : Int32))) ≤ 0 → K 0 ((upd S.1 0 ((if (f_X8_in a1 0 200) = 0 then (1 : Int32) else if (f_X8_in a2 0 200) = 0 then (1 : Int32) else if (f_X8_isDrafted S) = 0 then (2 : Int32) else (0 : Int32))), S.2)))
set_option maxHeartbeats 4000000 in
theorem C_X8_ask {M : qm_G} {d : Nat} (a1 a2 : Int32) (S : qm_S) (K : Int32 → qm_S → Prop) (h : T_X8_ask a1 a2 S K) : qm_C M (d + 8) I_X8_ask [.ref M.2.2.1, .int a1, .int a2] S (fun v S' => ∃ r, v = some (.int r) ∧ K r S') := by
  refine qm_C.of (by decide) rfl (ls := [some (.ref M.2.2.1), some (.int a1), some (.int a2), none]) rfl (Nat.le_of_ble_eq_true rfl) (qm_ct rfl) ?_
  unfold T_X8_ask at h
  refine qm_aload_n E_X8_ask (by rfl) dX8_ask_0 ?_
  refine qm_iload_n E_X8_ask (by rfl) dX8_ask_1 ?_
  refine qm_iconst E_X8_ask 0 (by decide) dX8_ask_2 ?_
  refine qm_sipush E_X8_ask 200 (by decide) dX8_ask_3 ?_
  refine qm_callS (As := [.int a1, .int 0, .int 200]) (rest := [.ref M.2.2.1]) E_X8_ask rfl M_X8_in rfl q1951 q1952 rfl rfl (Nat.le_of_ble_eq_true rfl) dX8_ask_6 (C_X8_in (d := d + 7) a1 0 200 S _ ?_)
  have Jv4 : ∀ v4 : Int32, v4 = (if (f_X8_in a1 0 200) = 0 then (1 : Int32) else if (f_X8_in a2 0 200) = 0 then (1 : Int32) else if (f_X8_isDrafted S) = 0 then (2 : Int32) else (0 : Int32)) → qm_wp M (d + 8) I_X8_ask 39 [some (.ref M.2.2.1), some (.int a1), some (.int a2), none] [.int v4, .ref M.2.2.1] S (fun v S' => ∃ r, v = some (.int r) ∧ K r S') := by
    rintro _ rfl
    refine qm_put E_X8_ask rfl 0 (by decide) q1657 rfl rfl rfl (qm_set0) dX8_ask_39 ?_
    refine qm_aload_n E_X8_ask (by rfl) dX8_ask_42 ?_
    refine qm_get E_X8_ask rfl 0 (by decide) q1657 (v := .int ((if (f_X8_in a1 0 200) = 0 then (1 : Int32) else if (f_X8_in a2 0 200) = 0 then (1 : Int32) else if (f_X8_isDrafted S) = 0 then (2 : Int32) else (0 : Int32)))) rfl dX8_ask_43 ?_
    refine qm_if_le E_X8_ask 51 dX8_ask_46 (by decide) (fun (c5 : ((if (f_X8_in a1 0 200) = 0 then (1 : Int32) else if (f_X8_in a2 0 200) = 0 then (1 : Int32) else if (f_X8_isDrafted S) = 0 then (2 : Int32) else (0 : Int32))) ≤ 0) => ?_) (fun (c5 : ¬ ((if (f_X8_in a1 0 200) = 0 then (1 : Int32) else if (f_X8_in a2 0 200) = 0 then (1 : Int32) else if (f_X8_isDrafted S) = 0 then (2 : Int32) else (0 : Int32))) ≤ 0) => ?_)
    · have h := h.1 c5
      refine qm_aload_n E_X8_ask (by rfl) dX8_ask_51 ?_
      refine qm_aload_n E_X8_ask (by rfl) dX8_ask_52 ?_
      refine qm_get E_X8_ask rfl 8 (by decide) q1665 (v := .int (S.1 8)) rfl dX8_ask_53 ?_
      refine qm_put E_X8_ask rfl 52 (by decide) q1709 rfl rfl rfl (qm_set52) dX8_ask_56 ?_
      refine qm_aload_n E_X8_ask (by rfl) dX8_ask_59 ?_
      refine qm_iload_n E_X8_ask (by rfl) dX8_ask_60 ?_
      refine qm_put E_X8_ask rfl 53 (by decide) q1710 rfl rfl rfl (qm_set53) dX8_ask_61 ?_
      refine qm_aload_n E_X8_ask (by rfl) dX8_ask_64 ?_
      refine qm_iload_n E_X8_ask (by rfl) dX8_ask_65 ?_
      refine qm_put E_X8_ask rfl 54 (by decide) q1711 rfl rfl rfl (qm_set54) dX8_ask_66 ?_
      refine qm_aload_n E_X8_ask (by rfl) dX8_ask_69 ?_
      refine qm_iconst E_X8_ask 0 (by decide) dX8_ask_70 ?_
      refine qm_put E_X8_ask rfl 78 (by decide) q1735 rfl rfl rfl (qm_set78) dX8_ask_71 ?_
      refine qm_aload_n E_X8_ask (by rfl) dX8_ask_74 ?_
      refine qm_iconst E_X8_ask 0 (by decide) dX8_ask_75 ?_
      refine qm_put E_X8_ask rfl 80 (by decide) q1737 rfl rfl rfl (qm_set80) dX8_ask_76 ?_
      refine qm_aload_n E_X8_ask (by rfl) dX8_ask_79 ?_
      refine qm_iconst E_X8_ask 0 (by decide) dX8_ask_80 ?_
      refine qm_put E_X8_ask rfl 81 (by decide) q1738 rfl rfl rfl (qm_set81) dX8_ask_81 ?_
      refine qm_aload_n E_X8_ask (by rfl) dX8_ask_84 ?_
      refine qm_iconst E_X8_ask 0 (by decide) dX8_ask_85 ?_
      refine qm_put E_X8_ask rfl 82 (by decide) q1739 rfl rfl rfl (qm_set82) dX8_ask_86 ?_
      refine qm_aload_n E_X8_ask (by rfl) dX8_ask_89 ?_
      refine qm_iconst E_X8_ask 0 (by decide) dX8_ask_90 ?_
      refine qm_put E_X8_ask rfl 83 (by decide) q1740 rfl rfl rfl (qm_set83) dX8_ask_91 ?_
      refine qm_iconst E_X8_ask 0 (by decide) dX8_ask_94 ?_
      refine qm_istore_n E_X8_ask (by decide) dX8_ask_95 ?_
      refine h (fun x7 S8 => qm_wp M (d + 8) I_X8_ask 96 [some (.ref M.2.2.1), some (.int a1), some (.int a2), some (.int x7)] [] S8 (fun v S' => ∃ r, v = some (.int r) ∧ K r S')) ?_
      intro x7 S8 h
      refine qm_iload_n E_X8_ask (by rfl) dX8_ask_96 ?_
      refine qm_iconst E_X8_ask 3 (by decide) dX8_ask_97 ?_
      refine qm_icmp_ge E_X8_ask 114 dX8_ask_98 (by decide) (fun (c9 : 3 ≤ x7) => ?_) (fun (c9 : ¬ 3 ≤ x7) => ?_)
      · have h := h.1 c9
        refine h (fun S11 => qm_wp M (d + 8) I_X8_ask 114 [some (.ref M.2.2.1), some (.int a1), some (.int a2), some (.int x7)] [] S11 (fun v S' => ∃ r, v = some (.int r) ∧ K r S')) ?_
        intro S11 h
        refine qm_aload_n E_X8_ask (by rfl) dX8_ask_114 ?_
        refine qm_get E_X8_ask rfl 83 (by decide) q1740 (v := .int (S11.1 83)) rfl dX8_ask_115 ?_
        refine qm_aload_n E_X8_ask (by rfl) dX8_ask_118 ?_
        refine qm_get E_X8_ask rfl 22 (by decide) q1679 (v := .int (S11.1 22)) rfl dX8_ask_119 ?_
        refine qm_icmp_ge E_X8_ask 136 dX8_ask_122 (by decide) (fun (c12 : (S11.1 22) ≤ (S11.1 83)) => ?_) (fun (c12 : ¬ (S11.1 22) ≤ (S11.1 83)) => ?_)
        · have h := h.1 c12
          refine qm_aload_n E_X8_ask (by rfl) dX8_ask_136 ?_
          refine qm_iconst E_X8_ask 1 (by decide) dX8_ask_137 ?_
          refine qm_callV (As := [.int 1]) (rest := []) E_X8_ask rfl M_X8_makes rfl q2210 q2212 qs71 rfl rfl rfl (Nat.le_of_ble_eq_true rfl) dX8_ask_138 (qm_C.mono ?_ (C_X8_makes (d := d + 3) 1 S11 _ h))
          rintro _ S13 ⟨rfl, h⟩
          refine qm_aload_n E_X8_ask (by rfl) dX8_ask_141 ?_
          refine qm_aload_n E_X8_ask (by rfl) dX8_ask_142 ?_
          refine qm_get E_X8_ask rfl 68 (by decide) q1725 (v := .int (S13.1 68)) rfl dX8_ask_143 ?_
          refine qm_put E_X8_ask rfl 75 (by decide) q1732 rfl rfl rfl (qm_set75) dX8_ask_146 ?_
          refine qm_aload_n E_X8_ask (by rfl) dX8_ask_149 ?_
          refine qm_aload_n E_X8_ask (by rfl) dX8_ask_150 ?_
          refine qm_get E_X8_ask rfl 69 (by decide) q1726 (v := .int (S13.1 69)) rfl dX8_ask_151 ?_
          refine qm_put E_X8_ask rfl 76 (by decide) q1733 rfl rfl rfl (qm_set76) dX8_ask_154 ?_
          refine qm_iconst E_X8_ask 0 (by decide) dX8_ask_157 ?_
          refine qm_istore_n E_X8_ask (by decide) dX8_ask_158 ?_
          refine h (fun x15 S16 => qm_wp M (d + 8) I_X8_ask 159 [some (.ref M.2.2.1), some (.int a1), some (.int a2), some (.int x15)] [] S16 (fun v S' => ∃ r, v = some (.int r) ∧ K r S')) ?_
          intro x15 S16 h
          refine qm_iload_n E_X8_ask (by rfl) dX8_ask_159 ?_
          refine qm_bipush E_X8_ask 120 (by decide) dX8_ask_160 ?_
          refine qm_icmp_ge E_X8_ask 183 dX8_ask_162 (by decide) (fun (c17 : 120 ≤ x15) => ?_) (fun (c17 : ¬ 120 ≤ x15) => ?_)
          · have h := h.1 c17
            refine qm_aload_n E_X8_ask (by rfl) dX8_ask_183 ?_
            refine qm_aload_n E_X8_ask (by rfl) dX8_ask_184 ?_
            refine qm_callV (As := []) (rest := [.ref M.2.2.1]) E_X8_ask rfl M_X8_claimed rfl q2245 q2247 qs79 rfl rfl rfl (Nat.le_of_ble_eq_true rfl) dX8_ask_185 (qm_C.mono ?_ (C_X8_claimed (d := d + 7)  S16 _ h))
            rintro _ _ ⟨r18, rfl, rfl, h⟩
            refine qm_put E_X8_ask rfl 79 (by decide) q1736 rfl rfl rfl (qm_set79) dX8_ask_188 ?_
            refine qm_aload_n E_X8_ask (by rfl) dX8_ask_191 ?_
            refine qm_get E_X8_ask rfl 75 (by decide) q1732 (v := .int (S16.1 75)) rfl dX8_ask_192 ?_
            exact qm_iret E_X8_ask rfl dX8_ask_195 ⟨_, rfl, h⟩
          · have h := h.2 c17
            refine qm_aload_n E_X8_ask (by rfl) dX8_ask_165 ?_
            refine qm_get E_X8_ask rfl 77 (by decide) q1734 (v := .ref (M.2.2.2 77)) rfl dX8_ask_166 ?_
            refine qm_iload_n E_X8_ask (by rfl) dX8_ask_169 ?_
            refine qm_aload_n E_X8_ask (by rfl) dX8_ask_170 ?_
            refine qm_get E_X8_ask rfl 70 (by decide) q1727 (v := .ref (M.2.2.2 70)) rfl dX8_ask_171 ?_
            refine qm_iload_n E_X8_ask (by rfl) dX8_ask_174 ?_
            obtain ⟨o20, h⟩ := h
            refine qm_iald E_X8_ask 70 (by decide) rfl o20 dX8_ask_175 ?_
            obtain ⟨o21, h⟩ := h
            refine qm_iast E_X8_ask 77 (by decide) rfl o21 dX8_ask_176 ?_
            refine qm_iinc E_X8_ask 1 rfl (by decide) (by decide) dX8_ask_177 ?_
            refine qm_goto E_X8_ask 159 dX8_ask_180 (by decide) ?_
            exact h
        · have h := h.2 c12
          refine qm_aload_n E_X8_ask (by rfl) dX8_ask_125 ?_
          refine qm_aload_n E_X8_ask (by rfl) dX8_ask_126 ?_
          refine qm_callV (As := []) (rest := [.ref M.2.2.1]) E_X8_ask rfl M_X8_nextSeat rfl q2113 q2115 qs49 rfl rfl rfl (Nat.le_of_ble_eq_true rfl) dX8_ask_127 (qm_C.mono ?_ (C_X8_nextSeat (d := d + 3)  S11 _ h))
          rintro _ _ ⟨r22, rfl, rfl, h⟩
          refine qm_callV (As := [.int r22]) (rest := []) E_X8_ask rfl M_X8_takes rfl q2136 q2138 qs54 rfl rfl rfl (Nat.le_of_ble_eq_true rfl) dX8_ask_130 (qm_C.mono ?_ (C_X8_takes (d := d) r22 S11 _ h))
          rintro _ S24 ⟨rfl, h⟩
          refine qm_goto E_X8_ask 114 dX8_ask_133 (by decide) ?_
          exact h
      · have h := h.2 c9
        refine qm_aload_n E_X8_ask (by rfl) dX8_ask_101 ?_
        refine qm_get E_X8_ask rfl 56 (by decide) q1713 (v := .ref (M.2.2.2 56)) rfl dX8_ask_102 ?_
        refine qm_iload_n E_X8_ask (by rfl) dX8_ask_105 ?_
        refine qm_iconst E_X8_ask 0 (by decide) dX8_ask_106 ?_
        obtain ⟨o25, h⟩ := h
        refine qm_zast E_X8_ask 56 (by decide) rfl (qm_vb (Or.inl rfl)) o25 dX8_ask_107 ?_
        refine qm_iinc E_X8_ask 1 rfl (by decide) (by decide) dX8_ask_108 ?_
        refine qm_goto E_X8_ask 96 dX8_ask_111 (by decide) ?_
        exact h
    · have h := h.2 c5
      refine qm_iconst E_X8_ask 0 (by decide) dX8_ask_49 ?_
      exact qm_iret E_X8_ask rfl dX8_ask_50 ⟨_, rfl, h⟩
  refine qm_if_eq E_X8_ask 23 dX8_ask_9 (by decide) (fun (c1 : (f_X8_in a1 0 200) = 0) => ?_) (fun (c1 : ¬ (f_X8_in a1 0 200) = 0) => ?_)
  · refine qm_iconst E_X8_ask 1 (by decide) dX8_ask_23 ?_
    refine qm_goto E_X8_ask 39 dX8_ask_24 (by decide) ?_
    exact Jv4 ((1 : Int32)) (by rw [if_pos c1])
  · refine qm_iload_n E_X8_ask (by rfl) dX8_ask_12 ?_
    refine qm_iconst E_X8_ask 0 (by decide) dX8_ask_13 ?_
    refine qm_sipush E_X8_ask 200 (by decide) dX8_ask_14 ?_
    refine qm_callS (As := [.int a2, .int 0, .int 200]) (rest := [.ref M.2.2.1]) E_X8_ask rfl M_X8_in rfl q1951 q1952 rfl rfl (Nat.le_of_ble_eq_true rfl) dX8_ask_17 (C_X8_in (d := d + 7) a2 0 200 S _ ?_)
    refine qm_if_ne E_X8_ask 27 dX8_ask_20 (by decide) (fun (c2 : ¬ (f_X8_in a2 0 200) = 0) => ?_) (fun (c2 : (f_X8_in a2 0 200) = 0) => ?_)
    · refine qm_aload_n E_X8_ask (by rfl) dX8_ask_27 ?_
      refine qm_callV (As := []) (rest := [.ref M.2.2.1]) E_X8_ask rfl M_X8_isDrafted rfl q2109 q2111 qs48 rfl rfl rfl (Nat.le_of_ble_eq_true rfl) dX8_ask_28 (C_X8_isDrafted (d := d + 7)  S _ ?_)
      refine qm_if_eq E_X8_ask 38 dX8_ask_31 (by decide) (fun (c3 : (f_X8_isDrafted S) = 0) => ?_) (fun (c3 : ¬ (f_X8_isDrafted S) = 0) => ?_)
      · refine qm_iconst E_X8_ask 2 (by decide) dX8_ask_38 ?_
        exact Jv4 ((2 : Int32)) (by rw [if_neg c1, if_neg c2, if_pos c3])
      · refine qm_iconst E_X8_ask 0 (by decide) dX8_ask_34 ?_
        refine qm_goto E_X8_ask 39 dX8_ask_35 (by decide) ?_
        exact Jv4 ((0 : Int32)) (by rw [if_neg c1, if_neg c2, if_neg c3])
    · refine qm_iconst E_X8_ask 1 (by decide) dX8_ask_23 ?_
      refine qm_goto E_X8_ask 39 dX8_ask_24 (by decide) ?_
      exact Jv4 ((1 : Int32)) (by rw [if_neg c1, if_pos c2])
def I_X8_answers : qh_I := (yX8_answers, cX8_answers, 1, (Option.some Jvm.ClassFile.FieldType.int), [])
theorem E_X8_answers : I_X8_answers.2.1 = cX8_answers := rfl
theorem M_X8_answers : qh_M I_X8_answers 0 := ⟨by decide, by decide, by decide +kernel, q95, q2252, by decide⟩
def T_X8_answers (S : qm_S) (K : Int32 → qm_S → Prop) : Prop := K (S.1 75) ((upd S.1 0 0, S.2))
set_option maxHeartbeats 4000000 in
theorem C_X8_answers {M : qm_G} {d : Nat} (S : qm_S) (K : Int32 → qm_S → Prop) (h : T_X8_answers  S K) : qm_C M (d + 0) I_X8_answers [.ref M.2.2.1] S (fun v S' => ∃ r, v = some (.int r) ∧ K r S') := by
  refine qm_C.of (by decide) rfl (ls := [some (.ref M.2.2.1)]) rfl (Nat.le_of_ble_eq_true rfl) (qm_ct rfl) ?_
  unfold T_X8_answers at h
  refine qm_aload_n E_X8_answers (by rfl) dX8_answers_0 ?_
  refine qm_iconst E_X8_answers 0 (by decide) dX8_answers_1 ?_
  refine qm_put E_X8_answers rfl 0 (by decide) q1657 rfl rfl rfl (qm_set0) dX8_answers_2 ?_
  refine qm_aload_n E_X8_answers (by rfl) dX8_answers_5 ?_
  refine qm_get E_X8_answers rfl 75 (by decide) q1732 (v := .int (S.1 75)) rfl dX8_answers_6 ?_
  exact qm_iret E_X8_answers rfl dX8_answers_9 ⟨_, rfl, h⟩
def I_X8_answer : qh_I := (yX8_answer, cX8_answer, 3, (Option.some Jvm.ClassFile.FieldType.int), [])
theorem E_X8_answer : I_X8_answer.2.1 = cX8_answer := rfl
theorem M_X8_answer : qh_M I_X8_answer 2 := ⟨by decide, by decide, by decide +kernel, q95, q2256, by decide⟩
def T_X8_answer (a1 a2 : Int32) (S : qm_S) (K : Int32 → qm_S → Prop) : Prop := (((if (f_X8_in a1 0 ((S.1 75) - 1)) = 0 then (1 : Int32) else if (f_X8_in a2 0 ((S.1 76) - 1)) = 0 then (1 : Int32) else (0 : Int32))) ≤ 0 → vp_in ((3 * a1) + a2) (qm_len 77) ∧ K (S.2 77 ((3 * a1) + a2).toNatClampNeg) ((upd S.1 0 ((if (f_X8_in a1 0 ((S.1 75) - 1)) = 0 then (1 : Int32) else if (f_X8_in a2 0 ((S.1 76) - 1)) = 0 then (1 : Int32) else (0 : Int32))), S.2))) ∧ (¬ ((if (f_X8_in a1 0 ((S.1 75) - 1)) = 0 then (1 : Int32) else if (f_X8_in a2 0 ((S.1 76) - 1)) = 0 then (1 : Int32) else (0 : Int32))) ≤ 0 → K 0 ((upd S.1 0 ((if (f_X8_in a1 0 ((S.1 75) - 1)) = 0 then (1 : Int32) else if (f_X8_in a2 0 ((S.1 76) - 1)) = 0 then (1 : Int32) else (0 : Int32))), S.2)))
set_option maxHeartbeats 4000000 in
theorem C_X8_answer {M : qm_G} {d : Nat} (a1 a2 : Int32) (S : qm_S) (K : Int32 → qm_S → Prop) (h : T_X8_answer a1 a2 S K) : qm_C M (d + 1) I_X8_answer [.ref M.2.2.1, .int a1, .int a2] S (fun v S' => ∃ r, v = some (.int r) ∧ K r S') := by
  refine qm_C.of (by decide) rfl (ls := [some (.ref M.2.2.1), some (.int a1), some (.int a2)]) rfl (Nat.le_of_ble_eq_true rfl) (qm_ct rfl) ?_
  unfold T_X8_answer at h
  refine qm_aload_n E_X8_answer (by rfl) dX8_answer_0 ?_
  refine qm_iload_n E_X8_answer (by rfl) dX8_answer_1 ?_
  refine qm_iconst E_X8_answer 0 (by decide) dX8_answer_2 ?_
  refine qm_aload_n E_X8_answer (by rfl) dX8_answer_3 ?_
  refine qm_get E_X8_answer rfl 75 (by decide) q1732 (v := .int (S.1 75)) rfl dX8_answer_4 ?_
  refine qm_iconst E_X8_answer 1 (by decide) dX8_answer_7 ?_
  refine qm_isub E_X8_answer dX8_answer_8 ?_
  refine qm_callS (As := [.int a1, .int 0, .int ((S.1 75) - 1)]) (rest := [.ref M.2.2.1]) E_X8_answer rfl M_X8_in rfl q1951 q1952 rfl rfl (Nat.le_of_ble_eq_true rfl) dX8_answer_9 (C_X8_in (d := d) a1 0 ((S.1 75) - 1) S _ ?_)
  have Jv3 : ∀ v3 : Int32, v3 = (if (f_X8_in a1 0 ((S.1 75) - 1)) = 0 then (1 : Int32) else if (f_X8_in a2 0 ((S.1 76) - 1)) = 0 then (1 : Int32) else (0 : Int32)) → qm_wp M (d + 1) I_X8_answer 34 [some (.ref M.2.2.1), some (.int a1), some (.int a2)] [.int v3, .ref M.2.2.1] S (fun v S' => ∃ r, v = some (.int r) ∧ K r S') := by
    rintro _ rfl
    refine qm_put E_X8_answer rfl 0 (by decide) q1657 rfl rfl rfl (qm_set0) dX8_answer_34 ?_
    refine qm_aload_n E_X8_answer (by rfl) dX8_answer_37 ?_
    refine qm_get E_X8_answer rfl 0 (by decide) q1657 (v := .int ((if (f_X8_in a1 0 ((S.1 75) - 1)) = 0 then (1 : Int32) else if (f_X8_in a2 0 ((S.1 76) - 1)) = 0 then (1 : Int32) else (0 : Int32)))) rfl dX8_answer_38 ?_
    refine qm_if_le E_X8_answer 48 dX8_answer_41 (by decide) (fun (c4 : ((if (f_X8_in a1 0 ((S.1 75) - 1)) = 0 then (1 : Int32) else if (f_X8_in a2 0 ((S.1 76) - 1)) = 0 then (1 : Int32) else (0 : Int32))) ≤ 0) => ?_) (fun (c4 : ¬ ((if (f_X8_in a1 0 ((S.1 75) - 1)) = 0 then (1 : Int32) else if (f_X8_in a2 0 ((S.1 76) - 1)) = 0 then (1 : Int32) else (0 : Int32))) ≤ 0) => ?_)
    · have h := h.1 c4
      refine qm_aload_n E_X8_answer (by rfl) dX8_answer_48 ?_
      refine qm_get E_X8_answer rfl 77 (by decide) q1734 (v := .ref (M.2.2.2 77)) rfl dX8_answer_49 ?_
      refine qm_iconst E_X8_answer 3 (by decide) dX8_answer_52 ?_
      refine qm_iload_n E_X8_answer (by rfl) dX8_answer_53 ?_
      refine qm_imul E_X8_answer dX8_answer_54 ?_
      refine qm_iload_n E_X8_answer (by rfl) dX8_answer_55 ?_
      refine qm_iadd E_X8_answer dX8_answer_56 ?_
      obtain ⟨o5, h⟩ := h
      refine qm_iald E_X8_answer 77 (by decide) rfl o5 dX8_answer_57 ?_
      exact qm_iret E_X8_answer rfl dX8_answer_58 ⟨_, rfl, h⟩
    · have h := h.2 c4
      refine qm_iconst E_X8_answer 0 (by decide) dX8_answer_44 ?_
      refine qm_goto E_X8_answer 58 dX8_answer_45 (by decide) ?_
      exact qm_iret E_X8_answer rfl dX8_answer_58 ⟨_, rfl, h⟩
  refine qm_if_eq E_X8_answer 33 dX8_answer_12 (by decide) (fun (c1 : (f_X8_in a1 0 ((S.1 75) - 1)) = 0) => ?_) (fun (c1 : ¬ (f_X8_in a1 0 ((S.1 75) - 1)) = 0) => ?_)
  · refine qm_iconst E_X8_answer 1 (by decide) dX8_answer_33 ?_
    exact Jv3 ((1 : Int32)) (by rw [if_pos c1])
  · refine qm_iload_n E_X8_answer (by rfl) dX8_answer_15 ?_
    refine qm_iconst E_X8_answer 0 (by decide) dX8_answer_16 ?_
    refine qm_aload_n E_X8_answer (by rfl) dX8_answer_17 ?_
    refine qm_get E_X8_answer rfl 76 (by decide) q1733 (v := .int (S.1 76)) rfl dX8_answer_18 ?_
    refine qm_iconst E_X8_answer 1 (by decide) dX8_answer_21 ?_
    refine qm_isub E_X8_answer dX8_answer_22 ?_
    refine qm_callS (As := [.int a2, .int 0, .int ((S.1 76) - 1)]) (rest := [.ref M.2.2.1]) E_X8_answer rfl M_X8_in rfl q1951 q1952 rfl rfl (Nat.le_of_ble_eq_true rfl) dX8_answer_23 (C_X8_in (d := d) a2 0 ((S.1 76) - 1) S _ ?_)
    refine qm_if_eq E_X8_answer 33 dX8_answer_26 (by decide) (fun (c2 : (f_X8_in a2 0 ((S.1 76) - 1)) = 0) => ?_) (fun (c2 : ¬ (f_X8_in a2 0 ((S.1 76) - 1)) = 0) => ?_)
    · refine qm_iconst E_X8_answer 1 (by decide) dX8_answer_33 ?_
      exact Jv3 ((1 : Int32)) (by rw [if_neg c1, if_pos c2])
    · refine qm_iconst E_X8_answer 0 (by decide) dX8_answer_29 ?_
      refine qm_goto E_X8_answer 34 dX8_answer_30 (by decide) ?_
      exact Jv3 ((0 : Int32)) (by rw [if_neg c1, if_neg c2])
def I_X8_missing : qh_I := (yX8_missing, cX8_missing, 1, (Option.some Jvm.ClassFile.FieldType.int), [])
theorem E_X8_missing : I_X8_missing.2.1 = cX8_missing := rfl
theorem M_X8_missing : qh_M I_X8_missing 0 := ⟨by decide, by decide, by decide +kernel, q95, q2260, by decide⟩
def T_X8_missing (S : qm_S) (K : Int32 → qm_S → Prop) : Prop := K (S.1 78) ((upd S.1 0 0, S.2))
set_option maxHeartbeats 4000000 in
theorem C_X8_missing {M : qm_G} {d : Nat} (S : qm_S) (K : Int32 → qm_S → Prop) (h : T_X8_missing  S K) : qm_C M (d + 0) I_X8_missing [.ref M.2.2.1] S (fun v S' => ∃ r, v = some (.int r) ∧ K r S') := by
  refine qm_C.of (by decide) rfl (ls := [some (.ref M.2.2.1)]) rfl (Nat.le_of_ble_eq_true rfl) (qm_ct rfl) ?_
  unfold T_X8_missing at h
  refine qm_aload_n E_X8_missing (by rfl) dX8_missing_0 ?_
  refine qm_iconst E_X8_missing 0 (by decide) dX8_missing_1 ?_
  refine qm_put E_X8_missing rfl 0 (by decide) q1657 rfl rfl rfl (qm_set0) dX8_missing_2 ?_
  refine qm_aload_n E_X8_missing (by rfl) dX8_missing_5 ?_
  refine qm_get E_X8_missing rfl 78 (by decide) q1735 (v := .int (S.1 78)) rfl dX8_missing_6 ?_
  exact qm_iret E_X8_missing rfl dX8_missing_9 ⟨_, rfl, h⟩
def I_X8_claims : qh_I := (yX8_claims, cX8_claims, 1, (Option.some Jvm.ClassFile.FieldType.int), [])
theorem E_X8_claims : I_X8_claims.2.1 = cX8_claims := rfl
theorem M_X8_claims : qh_M I_X8_claims 0 := ⟨by decide, by decide, by decide +kernel, q95, q2264, by decide⟩
def T_X8_claims (S : qm_S) (K : Int32 → qm_S → Prop) : Prop := K (S.1 79) ((upd S.1 0 0, S.2))
set_option maxHeartbeats 4000000 in
theorem C_X8_claims {M : qm_G} {d : Nat} (S : qm_S) (K : Int32 → qm_S → Prop) (h : T_X8_claims  S K) : qm_C M (d + 0) I_X8_claims [.ref M.2.2.1] S (fun v S' => ∃ r, v = some (.int r) ∧ K r S') := by
  refine qm_C.of (by decide) rfl (ls := [some (.ref M.2.2.1)]) rfl (Nat.le_of_ble_eq_true rfl) (qm_ct rfl) ?_
  unfold T_X8_claims at h
  refine qm_aload_n E_X8_claims (by rfl) dX8_claims_0 ?_
  refine qm_iconst E_X8_claims 0 (by decide) dX8_claims_1 ?_
  refine qm_put E_X8_claims rfl 0 (by decide) q1657 rfl rfl rfl (qm_set0) dX8_claims_2 ?_
  refine qm_aload_n E_X8_claims (by rfl) dX8_claims_5 ?_
  refine qm_get E_X8_claims rfl 79 (by decide) q1736 (v := .int (S.1 79)) rfl dX8_claims_6 ?_
  exact qm_iret E_X8_claims rfl dX8_claims_9 ⟨_, rfl, h⟩
def I_X8_cost : qh_I := (yX8_cost, cX8_cost, 1, (Option.some Jvm.ClassFile.FieldType.int), [])
theorem E_X8_cost : I_X8_cost.2.1 = cX8_cost := rfl
theorem M_X8_cost : qh_M I_X8_cost 0 := ⟨by decide, by decide, by decide +kernel, q95, q2268, by decide⟩
def T_X8_cost (S : qm_S) (K : Int32 → qm_S → Prop) : Prop := K (S.1 80) ((upd S.1 0 0, S.2))
set_option maxHeartbeats 4000000 in
theorem C_X8_cost {M : qm_G} {d : Nat} (S : qm_S) (K : Int32 → qm_S → Prop) (h : T_X8_cost  S K) : qm_C M (d + 0) I_X8_cost [.ref M.2.2.1] S (fun v S' => ∃ r, v = some (.int r) ∧ K r S') := by
  refine qm_C.of (by decide) rfl (ls := [some (.ref M.2.2.1)]) rfl (Nat.le_of_ble_eq_true rfl) (qm_ct rfl) ?_
  unfold T_X8_cost at h
  refine qm_aload_n E_X8_cost (by rfl) dX8_cost_0 ?_
  refine qm_iconst E_X8_cost 0 (by decide) dX8_cost_1 ?_
  refine qm_put E_X8_cost rfl 0 (by decide) q1657 rfl rfl rfl (qm_set0) dX8_cost_2 ?_
  refine qm_aload_n E_X8_cost (by rfl) dX8_cost_5 ?_
  refine qm_get E_X8_cost rfl 80 (by decide) q1737 (v := .int (S.1 80)) rfl dX8_cost_6 ?_
  exact qm_iret E_X8_cost rfl dX8_cost_9 ⟨_, rfl, h⟩
def I_X8_attempts : qh_I := (yX8_attempts, cX8_attempts, 1, (Option.some Jvm.ClassFile.FieldType.int), [])
theorem E_X8_attempts : I_X8_attempts.2.1 = cX8_attempts := rfl
theorem M_X8_attempts : qh_M I_X8_attempts 0 := ⟨by decide, by decide, by decide +kernel, q95, q2272, by decide⟩
def T_X8_attempts (S : qm_S) (K : Int32 → qm_S → Prop) : Prop := K (S.1 81) ((upd S.1 0 0, S.2))
set_option maxHeartbeats 4000000 in
theorem C_X8_attempts {M : qm_G} {d : Nat} (S : qm_S) (K : Int32 → qm_S → Prop) (h : T_X8_attempts  S K) : qm_C M (d + 0) I_X8_attempts [.ref M.2.2.1] S (fun v S' => ∃ r, v = some (.int r) ∧ K r S') := by
  refine qm_C.of (by decide) rfl (ls := [some (.ref M.2.2.1)]) rfl (Nat.le_of_ble_eq_true rfl) (qm_ct rfl) ?_
  unfold T_X8_attempts at h
  refine qm_aload_n E_X8_attempts (by rfl) dX8_attempts_0 ?_
  refine qm_iconst E_X8_attempts 0 (by decide) dX8_attempts_1 ?_
  refine qm_put E_X8_attempts rfl 0 (by decide) q1657 rfl rfl rfl (qm_set0) dX8_attempts_2 ?_
  refine qm_aload_n E_X8_attempts (by rfl) dX8_attempts_5 ?_
  refine qm_get E_X8_attempts rfl 81 (by decide) q1738 (v := .int (S.1 81)) rfl dX8_attempts_6 ?_
  exact qm_iret E_X8_attempts rfl dX8_attempts_9 ⟨_, rfl, h⟩
def I_X8_shipped : qh_I := (yX8_shipped, cX8_shipped, 1, (Option.some Jvm.ClassFile.FieldType.int), [])
theorem E_X8_shipped : I_X8_shipped.2.1 = cX8_shipped := rfl
theorem M_X8_shipped : qh_M I_X8_shipped 0 := ⟨by decide, by decide, by decide +kernel, q95, q2276, by decide⟩
def T_X8_shipped (S : qm_S) (K : Int32 → qm_S → Prop) : Prop := K (S.1 82) ((upd S.1 0 0, S.2))
set_option maxHeartbeats 4000000 in
theorem C_X8_shipped {M : qm_G} {d : Nat} (S : qm_S) (K : Int32 → qm_S → Prop) (h : T_X8_shipped  S K) : qm_C M (d + 0) I_X8_shipped [.ref M.2.2.1] S (fun v S' => ∃ r, v = some (.int r) ∧ K r S') := by
  refine qm_C.of (by decide) rfl (ls := [some (.ref M.2.2.1)]) rfl (Nat.le_of_ble_eq_true rfl) (qm_ct rfl) ?_
  unfold T_X8_shipped at h
  refine qm_aload_n E_X8_shipped (by rfl) dX8_shipped_0 ?_
  refine qm_iconst E_X8_shipped 0 (by decide) dX8_shipped_1 ?_
  refine qm_put E_X8_shipped rfl 0 (by decide) q1657 rfl rfl rfl (qm_set0) dX8_shipped_2 ?_
  refine qm_aload_n E_X8_shipped (by rfl) dX8_shipped_5 ?_
  refine qm_get E_X8_shipped rfl 82 (by decide) q1739 (v := .int (S.1 82)) rfl dX8_shipped_6 ?_
  exact qm_iret E_X8_shipped rfl dX8_shipped_9 ⟨_, rfl, h⟩
def I_X8_taken : qh_I := (yX8_taken, cX8_taken, 2, (Option.some Jvm.ClassFile.FieldType.int), [])
theorem E_X8_taken : I_X8_taken.2.1 = cX8_taken := rfl
theorem M_X8_taken : qh_M I_X8_taken 1 := ⟨by decide, by decide, by decide +kernel, q95, q2280, by decide⟩
def T_X8_taken (a1 : Int32) (S : qm_S) (K : Int32 → qm_S → Prop) : Prop := (((if (f_X8_in a1 0 ((S.1 83) - 1)) = 0 then (1 : Int32) else (0 : Int32))) ≤ 0 → vp_in a1 (qm_len 84) ∧ K (S.2 84 a1.toNatClampNeg) ((upd S.1 0 ((if (f_X8_in a1 0 ((S.1 83) - 1)) = 0 then (1 : Int32) else (0 : Int32))), S.2))) ∧ (¬ ((if (f_X8_in a1 0 ((S.1 83) - 1)) = 0 then (1 : Int32) else (0 : Int32))) ≤ 0 → K 0 ((upd S.1 0 ((if (f_X8_in a1 0 ((S.1 83) - 1)) = 0 then (1 : Int32) else (0 : Int32))), S.2)))
set_option maxHeartbeats 4000000 in
theorem C_X8_taken {M : qm_G} {d : Nat} (a1 : Int32) (S : qm_S) (K : Int32 → qm_S → Prop) (h : T_X8_taken a1 S K) : qm_C M (d + 1) I_X8_taken [.ref M.2.2.1, .int a1] S (fun v S' => ∃ r, v = some (.int r) ∧ K r S') := by
  refine qm_C.of (by decide) rfl (ls := [some (.ref M.2.2.1), some (.int a1)]) rfl (Nat.le_of_ble_eq_true rfl) (qm_ct rfl) ?_
  unfold T_X8_taken at h
  refine qm_aload_n E_X8_taken (by rfl) dX8_taken_0 ?_
  refine qm_iload_n E_X8_taken (by rfl) dX8_taken_1 ?_
  refine qm_iconst E_X8_taken 0 (by decide) dX8_taken_2 ?_
  refine qm_aload_n E_X8_taken (by rfl) dX8_taken_3 ?_
  refine qm_get E_X8_taken rfl 83 (by decide) q1740 (v := .int (S.1 83)) rfl dX8_taken_4 ?_
  refine qm_iconst E_X8_taken 1 (by decide) dX8_taken_7 ?_
  refine qm_isub E_X8_taken dX8_taken_8 ?_
  refine qm_callS (As := [.int a1, .int 0, .int ((S.1 83) - 1)]) (rest := [.ref M.2.2.1]) E_X8_taken rfl M_X8_in rfl q1951 q1952 rfl rfl (Nat.le_of_ble_eq_true rfl) dX8_taken_9 (C_X8_in (d := d) a1 0 ((S.1 83) - 1) S _ ?_)
  have Jv2 : ∀ v2 : Int32, v2 = (if (f_X8_in a1 0 ((S.1 83) - 1)) = 0 then (1 : Int32) else (0 : Int32)) → qm_wp M (d + 1) I_X8_taken 20 [some (.ref M.2.2.1), some (.int a1)] [.int v2, .ref M.2.2.1] S (fun v S' => ∃ r, v = some (.int r) ∧ K r S') := by
    rintro _ rfl
    refine qm_put E_X8_taken rfl 0 (by decide) q1657 rfl rfl rfl (qm_set0) dX8_taken_20 ?_
    refine qm_aload_n E_X8_taken (by rfl) dX8_taken_23 ?_
    refine qm_get E_X8_taken rfl 0 (by decide) q1657 (v := .int ((if (f_X8_in a1 0 ((S.1 83) - 1)) = 0 then (1 : Int32) else (0 : Int32)))) rfl dX8_taken_24 ?_
    refine qm_if_le E_X8_taken 34 dX8_taken_27 (by decide) (fun (c3 : ((if (f_X8_in a1 0 ((S.1 83) - 1)) = 0 then (1 : Int32) else (0 : Int32))) ≤ 0) => ?_) (fun (c3 : ¬ ((if (f_X8_in a1 0 ((S.1 83) - 1)) = 0 then (1 : Int32) else (0 : Int32))) ≤ 0) => ?_)
    · have h := h.1 c3
      refine qm_aload_n E_X8_taken (by rfl) dX8_taken_34 ?_
      refine qm_get E_X8_taken rfl 84 (by decide) q1741 (v := .ref (M.2.2.2 84)) rfl dX8_taken_35 ?_
      refine qm_iload_n E_X8_taken (by rfl) dX8_taken_38 ?_
      obtain ⟨o4, h⟩ := h
      refine qm_iald E_X8_taken 84 (by decide) rfl o4 dX8_taken_39 ?_
      exact qm_iret E_X8_taken rfl dX8_taken_40 ⟨_, rfl, h⟩
    · have h := h.2 c3
      refine qm_iconst E_X8_taken 0 (by decide) dX8_taken_30 ?_
      refine qm_goto E_X8_taken 40 dX8_taken_31 (by decide) ?_
      exact qm_iret E_X8_taken rfl dX8_taken_40 ⟨_, rfl, h⟩
  refine qm_if_eq E_X8_taken 19 dX8_taken_12 (by decide) (fun (c1 : (f_X8_in a1 0 ((S.1 83) - 1)) = 0) => ?_) (fun (c1 : ¬ (f_X8_in a1 0 ((S.1 83) - 1)) = 0) => ?_)
  · refine qm_iconst E_X8_taken 1 (by decide) dX8_taken_19 ?_
    exact Jv2 ((1 : Int32)) (by rw [if_pos c1])
  · refine qm_iconst E_X8_taken 0 (by decide) dX8_taken_15 ?_
    refine qm_goto E_X8_taken 20 dX8_taken_16 (by decide) ?_
    exact Jv2 ((0 : Int32)) (by rw [if_neg c1])
def I_X8_size : qh_I := (yX8_size, cX8_size, 2, (Option.some Jvm.ClassFile.FieldType.int), [])
theorem E_X8_size : I_X8_size.2.1 = cX8_size := rfl
theorem M_X8_size : qh_M I_X8_size 1 := ⟨by decide, by decide, by decide +kernel, q95, q2284, by decide⟩
def T_X8_size (a1 : Int32) (S : qm_S) (K : Int32 → qm_S → Prop) : Prop := (((if (f_X8_isSource a1) = 0 then (1 : Int32) else (0 : Int32))) ≤ 0 → vp_in a1 (qm_len 21) ∧ K (S.2 21 a1.toNatClampNeg) ((upd S.1 0 ((if (f_X8_isSource a1) = 0 then (1 : Int32) else (0 : Int32))), S.2))) ∧ (¬ ((if (f_X8_isSource a1) = 0 then (1 : Int32) else (0 : Int32))) ≤ 0 → K 0 ((upd S.1 0 ((if (f_X8_isSource a1) = 0 then (1 : Int32) else (0 : Int32))), S.2)))
set_option maxHeartbeats 4000000 in
theorem C_X8_size {M : qm_G} {d : Nat} (a1 : Int32) (S : qm_S) (K : Int32 → qm_S → Prop) (h : T_X8_size a1 S K) : qm_C M (d + 2) I_X8_size [.ref M.2.2.1, .int a1] S (fun v S' => ∃ r, v = some (.int r) ∧ K r S') := by
  refine qm_C.of (by decide) rfl (ls := [some (.ref M.2.2.1), some (.int a1)]) rfl (Nat.le_of_ble_eq_true rfl) (qm_ct rfl) ?_
  unfold T_X8_size at h
  refine qm_aload_n E_X8_size (by rfl) dX8_size_0 ?_
  refine qm_iload_n E_X8_size (by rfl) dX8_size_1 ?_
  refine qm_callS (As := [.int a1]) (rest := [.ref M.2.2.1]) E_X8_size rfl M_X8_isSource rfl q1948 q1949 rfl rfl (Nat.le_of_ble_eq_true rfl) dX8_size_2 (C_X8_isSource (d := d) a1 S _ ?_)
  have Jv2 : ∀ v2 : Int32, v2 = (if (f_X8_isSource a1) = 0 then (1 : Int32) else (0 : Int32)) → qm_wp M (d + 2) I_X8_size 13 [some (.ref M.2.2.1), some (.int a1)] [.int v2, .ref M.2.2.1] S (fun v S' => ∃ r, v = some (.int r) ∧ K r S') := by
    rintro _ rfl
    refine qm_put E_X8_size rfl 0 (by decide) q1657 rfl rfl rfl (qm_set0) dX8_size_13 ?_
    refine qm_aload_n E_X8_size (by rfl) dX8_size_16 ?_
    refine qm_get E_X8_size rfl 0 (by decide) q1657 (v := .int ((if (f_X8_isSource a1) = 0 then (1 : Int32) else (0 : Int32)))) rfl dX8_size_17 ?_
    refine qm_if_le E_X8_size 27 dX8_size_20 (by decide) (fun (c3 : ((if (f_X8_isSource a1) = 0 then (1 : Int32) else (0 : Int32))) ≤ 0) => ?_) (fun (c3 : ¬ ((if (f_X8_isSource a1) = 0 then (1 : Int32) else (0 : Int32))) ≤ 0) => ?_)
    · have h := h.1 c3
      refine qm_aload_n E_X8_size (by rfl) dX8_size_27 ?_
      refine qm_get E_X8_size rfl 21 (by decide) q1678 (v := .ref (M.2.2.2 21)) rfl dX8_size_28 ?_
      refine qm_iload_n E_X8_size (by rfl) dX8_size_31 ?_
      obtain ⟨o4, h⟩ := h
      refine qm_iald E_X8_size 21 (by decide) rfl o4 dX8_size_32 ?_
      exact qm_iret E_X8_size rfl dX8_size_33 ⟨_, rfl, h⟩
    · have h := h.2 c3
      refine qm_iconst E_X8_size 0 (by decide) dX8_size_23 ?_
      refine qm_goto E_X8_size 33 dX8_size_24 (by decide) ?_
      exact qm_iret E_X8_size rfl dX8_size_33 ⟨_, rfl, h⟩
  refine qm_if_eq E_X8_size 12 dX8_size_5 (by decide) (fun (c1 : (f_X8_isSource a1) = 0) => ?_) (fun (c1 : ¬ (f_X8_isSource a1) = 0) => ?_)
  · refine qm_iconst E_X8_size 1 (by decide) dX8_size_12 ?_
    exact Jv2 ((1 : Int32)) (by rw [if_pos c1])
  · refine qm_iconst E_X8_size 0 (by decide) dX8_size_8 ?_
    refine qm_goto E_X8_size 13 dX8_size_9 (by decide) ?_
    exact Jv2 ((0 : Int32)) (by rw [if_neg c1])
def I_X8_entries : qh_I := (yX8_entries, cX8_entries, 1, (Option.some Jvm.ClassFile.FieldType.int), [])
theorem E_X8_entries : I_X8_entries.2.1 = cX8_entries := rfl
theorem M_X8_entries : qh_M I_X8_entries 0 := ⟨by decide, by decide, by decide +kernel, q95, q2288, by decide⟩
def T_X8_entries (S : qm_S) (K : Int32 → qm_S → Prop) : Prop := K (S.1 39) ((upd S.1 0 0, S.2))
set_option maxHeartbeats 4000000 in
theorem C_X8_entries {M : qm_G} {d : Nat} (S : qm_S) (K : Int32 → qm_S → Prop) (h : T_X8_entries  S K) : qm_C M (d + 0) I_X8_entries [.ref M.2.2.1] S (fun v S' => ∃ r, v = some (.int r) ∧ K r S') := by
  refine qm_C.of (by decide) rfl (ls := [some (.ref M.2.2.1)]) rfl (Nat.le_of_ble_eq_true rfl) (qm_ct rfl) ?_
  unfold T_X8_entries at h
  refine qm_aload_n E_X8_entries (by rfl) dX8_entries_0 ?_
  refine qm_iconst E_X8_entries 0 (by decide) dX8_entries_1 ?_
  refine qm_put E_X8_entries rfl 0 (by decide) q1657 rfl rfl rfl (qm_set0) dX8_entries_2 ?_
  refine qm_aload_n E_X8_entries (by rfl) dX8_entries_5 ?_
  refine qm_get E_X8_entries rfl 39 (by decide) q1696 (v := .int (S.1 39)) rfl dX8_entries_6 ?_
  exact qm_iret E_X8_entries rfl dX8_entries_9 ⟨_, rfl, h⟩
def I_X8_answersAnew : qh_I := (yX8_answersAnew, cX8_answersAnew, 1, (Option.some Jvm.ClassFile.FieldType.int), [])
theorem E_X8_answersAnew : I_X8_answersAnew.2.1 = cX8_answersAnew := rfl
theorem M_X8_answersAnew : qh_M I_X8_answersAnew 0 := ⟨by decide, by decide, by decide +kernel, q95, q2292, by decide⟩
def T_X8_answersAnew (S : qm_S) (K : Int32 → qm_S → Prop) : Prop := (((if (f_X8_isDrafted S) = 0 then (1 : Int32) else (0 : Int32))) ≤ 0 → T_X8_makes 0 ((upd S.1 0 ((if (f_X8_isDrafted S) = 0 then (1 : Int32) else (0 : Int32))), S.2)) (fun S4 => K (S4.1 68) S4)) ∧ (¬ ((if (f_X8_isDrafted S) = 0 then (1 : Int32) else (0 : Int32))) ≤ 0 → K 0 ((upd S.1 0 ((if (f_X8_isDrafted S) = 0 then (1 : Int32) else (0 : Int32))), S.2)))
set_option maxHeartbeats 4000000 in
theorem C_X8_answersAnew {M : qm_G} {d : Nat} (S : qm_S) (K : Int32 → qm_S → Prop) (h : T_X8_answersAnew  S K) : qm_C M (d + 5) I_X8_answersAnew [.ref M.2.2.1] S (fun v S' => ∃ r, v = some (.int r) ∧ K r S') := by
  refine qm_C.of (by decide) rfl (ls := [some (.ref M.2.2.1)]) rfl (Nat.le_of_ble_eq_true rfl) (qm_ct rfl) ?_
  unfold T_X8_answersAnew at h
  refine qm_aload_n E_X8_answersAnew (by rfl) dX8_answersAnew_0 ?_
  refine qm_aload_n E_X8_answersAnew (by rfl) dX8_answersAnew_1 ?_
  refine qm_callV (As := []) (rest := [.ref M.2.2.1]) E_X8_answersAnew rfl M_X8_isDrafted rfl q2109 q2111 qs48 rfl rfl rfl (Nat.le_of_ble_eq_true rfl) dX8_answersAnew_2 (C_X8_isDrafted (d := d + 4)  S _ ?_)
  have Jv2 : ∀ v2 : Int32, v2 = (if (f_X8_isDrafted S) = 0 then (1 : Int32) else (0 : Int32)) → qm_wp M (d + 5) I_X8_answersAnew 13 [some (.ref M.2.2.1)] [.int v2, .ref M.2.2.1] S (fun v S' => ∃ r, v = some (.int r) ∧ K r S') := by
    rintro _ rfl
    refine qm_put E_X8_answersAnew rfl 0 (by decide) q1657 rfl rfl rfl (qm_set0) dX8_answersAnew_13 ?_
    refine qm_aload_n E_X8_answersAnew (by rfl) dX8_answersAnew_16 ?_
    refine qm_get E_X8_answersAnew rfl 0 (by decide) q1657 (v := .int ((if (f_X8_isDrafted S) = 0 then (1 : Int32) else (0 : Int32)))) rfl dX8_answersAnew_17 ?_
    refine qm_if_le E_X8_answersAnew 25 dX8_answersAnew_20 (by decide) (fun (c3 : ((if (f_X8_isDrafted S) = 0 then (1 : Int32) else (0 : Int32))) ≤ 0) => ?_) (fun (c3 : ¬ ((if (f_X8_isDrafted S) = 0 then (1 : Int32) else (0 : Int32))) ≤ 0) => ?_)
    · have h := h.1 c3
      refine qm_aload_n E_X8_answersAnew (by rfl) dX8_answersAnew_25 ?_
      refine qm_iconst E_X8_answersAnew 0 (by decide) dX8_answersAnew_26 ?_
      refine qm_callV (As := [.int 0]) (rest := []) E_X8_answersAnew rfl M_X8_makes rfl q2210 q2212 qs71 rfl rfl rfl (Nat.le_of_ble_eq_true rfl) dX8_answersAnew_27 (qm_C.mono ?_ (C_X8_makes (d := d) 0 ((upd S.1 0 ((if (f_X8_isDrafted S) = 0 then (1 : Int32) else (0 : Int32))), S.2)) _ h))
      rintro _ S4 ⟨rfl, h⟩
      refine qm_aload_n E_X8_answersAnew (by rfl) dX8_answersAnew_30 ?_
      refine qm_get E_X8_answersAnew rfl 68 (by decide) q1725 (v := .int (S4.1 68)) rfl dX8_answersAnew_31 ?_
      exact qm_iret E_X8_answersAnew rfl dX8_answersAnew_34 ⟨_, rfl, h⟩
    · have h := h.2 c3
      refine qm_iconst E_X8_answersAnew 0 (by decide) dX8_answersAnew_23 ?_
      exact qm_iret E_X8_answersAnew rfl dX8_answersAnew_24 ⟨_, rfl, h⟩
  refine qm_if_eq E_X8_answersAnew 12 dX8_answersAnew_5 (by decide) (fun (c1 : (f_X8_isDrafted S) = 0) => ?_) (fun (c1 : ¬ (f_X8_isDrafted S) = 0) => ?_)
  · refine qm_iconst E_X8_answersAnew 1 (by decide) dX8_answersAnew_12 ?_
    exact Jv2 ((1 : Int32)) (by rw [if_pos c1])
  · refine qm_iconst E_X8_answersAnew 0 (by decide) dX8_answersAnew_8 ?_
    refine qm_goto E_X8_answersAnew 13 dX8_answersAnew_9 (by decide) ?_
    exact Jv2 ((0 : Int32)) (by rw [if_neg c1])
def I_X8_answerAnew : qh_I := (yX8_answerAnew, cX8_answerAnew, 3, (Option.some Jvm.ClassFile.FieldType.int), [])
theorem E_X8_answerAnew : I_X8_answerAnew.2.1 = cX8_answerAnew := rfl
theorem M_X8_answerAnew : qh_M I_X8_answerAnew 2 := ⟨by decide, by decide, by decide +kernel, q95, q2296, by decide⟩
def T_X8_answerAnew (a1 a2 : Int32) (S : qm_S) (K : Int32 → qm_S → Prop) : Prop := (((if (f_X8_isDrafted S) = 0 then (1 : Int32) else (0 : Int32))) ≤ 0 → T_X8_makes 0 ((upd S.1 0 ((if (f_X8_isDrafted S) = 0 then (1 : Int32) else (0 : Int32))), S.2)) (fun S4 => (((if (f_X8_in a1 0 ((S4.1 68) - 1)) = 0 then (2 : Int32) else if (f_X8_in a2 0 ((S4.1 69) - 1)) = 0 then (2 : Int32) else (0 : Int32))) ≤ 0 → vp_in ((3 * a1) + a2) (qm_len 70) ∧ K (S4.2 70 ((3 * a1) + a2).toNatClampNeg) ((upd S4.1 0 ((if (f_X8_in a1 0 ((S4.1 68) - 1)) = 0 then (2 : Int32) else if (f_X8_in a2 0 ((S4.1 69) - 1)) = 0 then (2 : Int32) else (0 : Int32))), S4.2))) ∧ (¬ ((if (f_X8_in a1 0 ((S4.1 68) - 1)) = 0 then (2 : Int32) else if (f_X8_in a2 0 ((S4.1 69) - 1)) = 0 then (2 : Int32) else (0 : Int32))) ≤ 0 → K 0 ((upd S4.1 0 ((if (f_X8_in a1 0 ((S4.1 68) - 1)) = 0 then (2 : Int32) else if (f_X8_in a2 0 ((S4.1 69) - 1)) = 0 then (2 : Int32) else (0 : Int32))), S4.2))))) ∧ (¬ ((if (f_X8_isDrafted S) = 0 then (1 : Int32) else (0 : Int32))) ≤ 0 → K 0 ((upd S.1 0 ((if (f_X8_isDrafted S) = 0 then (1 : Int32) else (0 : Int32))), S.2)))
set_option maxHeartbeats 4000000 in
theorem C_X8_answerAnew {M : qm_G} {d : Nat} (a1 a2 : Int32) (S : qm_S) (K : Int32 → qm_S → Prop) (h : T_X8_answerAnew a1 a2 S K) : qm_C M (d + 5) I_X8_answerAnew [.ref M.2.2.1, .int a1, .int a2] S (fun v S' => ∃ r, v = some (.int r) ∧ K r S') := by
  refine qm_C.of (by decide) rfl (ls := [some (.ref M.2.2.1), some (.int a1), some (.int a2)]) rfl (Nat.le_of_ble_eq_true rfl) (qm_ct rfl) ?_
  unfold T_X8_answerAnew at h
  refine qm_aload_n E_X8_answerAnew (by rfl) dX8_answerAnew_0 ?_
  refine qm_aload_n E_X8_answerAnew (by rfl) dX8_answerAnew_1 ?_
  refine qm_callV (As := []) (rest := [.ref M.2.2.1]) E_X8_answerAnew rfl M_X8_isDrafted rfl q2109 q2111 qs48 rfl rfl rfl (Nat.le_of_ble_eq_true rfl) dX8_answerAnew_2 (C_X8_isDrafted (d := d + 4)  S _ ?_)
  have Jv2 : ∀ v2 : Int32, v2 = (if (f_X8_isDrafted S) = 0 then (1 : Int32) else (0 : Int32)) → qm_wp M (d + 5) I_X8_answerAnew 13 [some (.ref M.2.2.1), some (.int a1), some (.int a2)] [.int v2, .ref M.2.2.1] S (fun v S' => ∃ r, v = some (.int r) ∧ K r S') := by
    rintro _ rfl
    refine qm_put E_X8_answerAnew rfl 0 (by decide) q1657 rfl rfl rfl (qm_set0) dX8_answerAnew_13 ?_
    refine qm_aload_n E_X8_answerAnew (by rfl) dX8_answerAnew_16 ?_
    refine qm_get E_X8_answerAnew rfl 0 (by decide) q1657 (v := .int ((if (f_X8_isDrafted S) = 0 then (1 : Int32) else (0 : Int32)))) rfl dX8_answerAnew_17 ?_
    refine qm_if_le E_X8_answerAnew 25 dX8_answerAnew_20 (by decide) (fun (c3 : ((if (f_X8_isDrafted S) = 0 then (1 : Int32) else (0 : Int32))) ≤ 0) => ?_) (fun (c3 : ¬ ((if (f_X8_isDrafted S) = 0 then (1 : Int32) else (0 : Int32))) ≤ 0) => ?_)
    · have h := h.1 c3
      refine qm_aload_n E_X8_answerAnew (by rfl) dX8_answerAnew_25 ?_
      refine qm_iconst E_X8_answerAnew 0 (by decide) dX8_answerAnew_26 ?_
      refine qm_callV (As := [.int 0]) (rest := []) E_X8_answerAnew rfl M_X8_makes rfl q2210 q2212 qs71 rfl rfl rfl (Nat.le_of_ble_eq_true rfl) dX8_answerAnew_27 (qm_C.mono ?_ (C_X8_makes (d := d) 0 ((upd S.1 0 ((if (f_X8_isDrafted S) = 0 then (1 : Int32) else (0 : Int32))), S.2)) _ h))
      rintro _ S4 ⟨rfl, h⟩
      refine qm_aload_n E_X8_answerAnew (by rfl) dX8_answerAnew_30 ?_
      refine qm_iload_n E_X8_answerAnew (by rfl) dX8_answerAnew_31 ?_
      refine qm_iconst E_X8_answerAnew 0 (by decide) dX8_answerAnew_32 ?_
      refine qm_aload_n E_X8_answerAnew (by rfl) dX8_answerAnew_33 ?_
      refine qm_get E_X8_answerAnew rfl 68 (by decide) q1725 (v := .int (S4.1 68)) rfl dX8_answerAnew_34 ?_
      refine qm_iconst E_X8_answerAnew 1 (by decide) dX8_answerAnew_37 ?_
      refine qm_isub E_X8_answerAnew dX8_answerAnew_38 ?_
      refine qm_callS (As := [.int a1, .int 0, .int ((S4.1 68) - 1)]) (rest := [.ref M.2.2.1]) E_X8_answerAnew rfl M_X8_in rfl q1951 q1952 rfl rfl (Nat.le_of_ble_eq_true rfl) dX8_answerAnew_39 (C_X8_in (d := d + 4) a1 0 ((S4.1 68) - 1) S4 _ ?_)
      have Jv7 : ∀ v7 : Int32, v7 = (if (f_X8_in a1 0 ((S4.1 68) - 1)) = 0 then (2 : Int32) else if (f_X8_in a2 0 ((S4.1 69) - 1)) = 0 then (2 : Int32) else (0 : Int32)) → qm_wp M (d + 5) I_X8_answerAnew 64 [some (.ref M.2.2.1), some (.int a1), some (.int a2)] [.int v7, .ref M.2.2.1] S4 (fun v S' => ∃ r, v = some (.int r) ∧ K r S') := by
        rintro _ rfl
        refine qm_put E_X8_answerAnew rfl 0 (by decide) q1657 rfl rfl rfl (qm_set0) dX8_answerAnew_64 ?_
        refine qm_aload_n E_X8_answerAnew (by rfl) dX8_answerAnew_67 ?_
        refine qm_get E_X8_answerAnew rfl 0 (by decide) q1657 (v := .int ((if (f_X8_in a1 0 ((S4.1 68) - 1)) = 0 then (2 : Int32) else if (f_X8_in a2 0 ((S4.1 69) - 1)) = 0 then (2 : Int32) else (0 : Int32)))) rfl dX8_answerAnew_68 ?_
        refine qm_if_le E_X8_answerAnew 78 dX8_answerAnew_71 (by decide) (fun (c8 : ((if (f_X8_in a1 0 ((S4.1 68) - 1)) = 0 then (2 : Int32) else if (f_X8_in a2 0 ((S4.1 69) - 1)) = 0 then (2 : Int32) else (0 : Int32))) ≤ 0) => ?_) (fun (c8 : ¬ ((if (f_X8_in a1 0 ((S4.1 68) - 1)) = 0 then (2 : Int32) else if (f_X8_in a2 0 ((S4.1 69) - 1)) = 0 then (2 : Int32) else (0 : Int32))) ≤ 0) => ?_)
        · have h := h.1 c8
          refine qm_aload_n E_X8_answerAnew (by rfl) dX8_answerAnew_78 ?_
          refine qm_get E_X8_answerAnew rfl 70 (by decide) q1727 (v := .ref (M.2.2.2 70)) rfl dX8_answerAnew_79 ?_
          refine qm_iconst E_X8_answerAnew 3 (by decide) dX8_answerAnew_82 ?_
          refine qm_iload_n E_X8_answerAnew (by rfl) dX8_answerAnew_83 ?_
          refine qm_imul E_X8_answerAnew dX8_answerAnew_84 ?_
          refine qm_iload_n E_X8_answerAnew (by rfl) dX8_answerAnew_85 ?_
          refine qm_iadd E_X8_answerAnew dX8_answerAnew_86 ?_
          obtain ⟨o9, h⟩ := h
          refine qm_iald E_X8_answerAnew 70 (by decide) rfl o9 dX8_answerAnew_87 ?_
          exact qm_iret E_X8_answerAnew rfl dX8_answerAnew_88 ⟨_, rfl, h⟩
        · have h := h.2 c8
          refine qm_iconst E_X8_answerAnew 0 (by decide) dX8_answerAnew_74 ?_
          refine qm_goto E_X8_answerAnew 88 dX8_answerAnew_75 (by decide) ?_
          exact qm_iret E_X8_answerAnew rfl dX8_answerAnew_88 ⟨_, rfl, h⟩
      refine qm_if_eq E_X8_answerAnew 63 dX8_answerAnew_42 (by decide) (fun (c5 : (f_X8_in a1 0 ((S4.1 68) - 1)) = 0) => ?_) (fun (c5 : ¬ (f_X8_in a1 0 ((S4.1 68) - 1)) = 0) => ?_)
      · refine qm_iconst E_X8_answerAnew 2 (by decide) dX8_answerAnew_63 ?_
        exact Jv7 ((2 : Int32)) (by rw [if_pos c5])
      · refine qm_iload_n E_X8_answerAnew (by rfl) dX8_answerAnew_45 ?_
        refine qm_iconst E_X8_answerAnew 0 (by decide) dX8_answerAnew_46 ?_
        refine qm_aload_n E_X8_answerAnew (by rfl) dX8_answerAnew_47 ?_
        refine qm_get E_X8_answerAnew rfl 69 (by decide) q1726 (v := .int (S4.1 69)) rfl dX8_answerAnew_48 ?_
        refine qm_iconst E_X8_answerAnew 1 (by decide) dX8_answerAnew_51 ?_
        refine qm_isub E_X8_answerAnew dX8_answerAnew_52 ?_
        refine qm_callS (As := [.int a2, .int 0, .int ((S4.1 69) - 1)]) (rest := [.ref M.2.2.1]) E_X8_answerAnew rfl M_X8_in rfl q1951 q1952 rfl rfl (Nat.le_of_ble_eq_true rfl) dX8_answerAnew_53 (C_X8_in (d := d + 4) a2 0 ((S4.1 69) - 1) S4 _ ?_)
        refine qm_if_eq E_X8_answerAnew 63 dX8_answerAnew_56 (by decide) (fun (c6 : (f_X8_in a2 0 ((S4.1 69) - 1)) = 0) => ?_) (fun (c6 : ¬ (f_X8_in a2 0 ((S4.1 69) - 1)) = 0) => ?_)
        · refine qm_iconst E_X8_answerAnew 2 (by decide) dX8_answerAnew_63 ?_
          exact Jv7 ((2 : Int32)) (by rw [if_neg c5, if_pos c6])
        · refine qm_iconst E_X8_answerAnew 0 (by decide) dX8_answerAnew_59 ?_
          refine qm_goto E_X8_answerAnew 64 dX8_answerAnew_60 (by decide) ?_
          exact Jv7 ((0 : Int32)) (by rw [if_neg c5, if_neg c6])
    · have h := h.2 c3
      refine qm_iconst E_X8_answerAnew 0 (by decide) dX8_answerAnew_23 ?_
      exact qm_iret E_X8_answerAnew rfl dX8_answerAnew_24 ⟨_, rfl, h⟩
  refine qm_if_eq E_X8_answerAnew 12 dX8_answerAnew_5 (by decide) (fun (c1 : (f_X8_isDrafted S) = 0) => ?_) (fun (c1 : ¬ (f_X8_isDrafted S) = 0) => ?_)
  · refine qm_iconst E_X8_answerAnew 1 (by decide) dX8_answerAnew_12 ?_
    exact Jv2 ((1 : Int32)) (by rw [if_pos c1])
  · refine qm_iconst E_X8_answerAnew 0 (by decide) dX8_answerAnew_8 ?_
    refine qm_goto E_X8_answerAnew 13 dX8_answerAnew_9 (by decide) ?_
    exact Jv2 ((0 : Int32)) (by rw [if_neg c1])
def I_X8_step : qh_I := (yX8_step, cX8_step, 8, (Option.some Jvm.ClassFile.FieldType.int), [])
theorem E_X8_step : I_X8_step.2.1 = cX8_step := rfl
theorem M_X8_step : qh_M I_X8_step 6 := ⟨by decide, by decide, by decide +kernel, q95, q2300, by decide⟩
def T_X8_step (a1 a2 a3 a4 a5 a6 : Int32) (S : qm_S) (K : Int32 → qm_S → Prop) : Prop := (((if (f_X8_isSource a2) = 0 then (1 : Int32) else if ((if (f_X8_in a1 0 2) = 0 then (0 : Int32) else if a1 = 0 then if a1 = 2 then if a4 = 0 then if a5 = 0 then (1 : Int32) else (0 : Int32) else (0 : Int32) else (1 : Int32) else if a6 = 0 then if a1 = 2 then if a4 = 0 then if a5 = 0 then (1 : Int32) else (0 : Int32) else (0 : Int32) else (1 : Int32) else (0 : Int32))) = 0 then (2 : Int32) else if (S.1 85) = 4 then (3 : Int32) else (0 : Int32))) ≤ 0 → vp_in (S.1 85) (qm_len 86) ∧ vp_in (S.1 85) (qm_len 87) ∧ vp_in (S.1 85) (qm_len 88) ∧ vp_in (S.1 85) (qm_len 89) ∧ vp_in (S.1 85) (qm_len 90) ∧ vp_in (S.1 85) (qm_len 91) ∧ K ((S.1 85) + 1) ((upd (upd S.1 0 ((if (f_X8_isSource a2) = 0 then (1 : Int32) else if ((if (f_X8_in a1 0 2) = 0 then (0 : Int32) else if a1 = 0 then if a1 = 2 then if a4 = 0 then if a5 = 0 then (1 : Int32) else (0 : Int32) else (0 : Int32) else (1 : Int32) else if a6 = 0 then if a1 = 2 then if a4 = 0 then if a5 = 0 then (1 : Int32) else (0 : Int32) else (0 : Int32) else (1 : Int32) else (0 : Int32))) = 0 then (2 : Int32) else if (S.1 85) = 4 then (3 : Int32) else (0 : Int32)))) 85 ((S.1 85) + 1), qm_uA (qm_uA (qm_uA (qm_uA (qm_uA (qm_uA S.2 86 (upd (S.2 86) (S.1 85).toNatClampNeg a1)) 87 (upd (S.2 87) (S.1 85).toNatClampNeg a2)) 88 (upd (S.2 88) (S.1 85).toNatClampNeg a3)) 89 (upd (S.2 89) (S.1 85).toNatClampNeg a4)) 90 (upd (S.2 90) (S.1 85).toNatClampNeg a5)) 91 (upd (S.2 91) (S.1 85).toNatClampNeg a6)))) ∧ (¬ ((if (f_X8_isSource a2) = 0 then (1 : Int32) else if ((if (f_X8_in a1 0 2) = 0 then (0 : Int32) else if a1 = 0 then if a1 = 2 then if a4 = 0 then if a5 = 0 then (1 : Int32) else (0 : Int32) else (0 : Int32) else (1 : Int32) else if a6 = 0 then if a1 = 2 then if a4 = 0 then if a5 = 0 then (1 : Int32) else (0 : Int32) else (0 : Int32) else (1 : Int32) else (0 : Int32))) = 0 then (2 : Int32) else if (S.1 85) = 4 then (3 : Int32) else (0 : Int32))) ≤ 0 → K 0 ((upd S.1 0 ((if (f_X8_isSource a2) = 0 then (1 : Int32) else if ((if (f_X8_in a1 0 2) = 0 then (0 : Int32) else if a1 = 0 then if a1 = 2 then if a4 = 0 then if a5 = 0 then (1 : Int32) else (0 : Int32) else (0 : Int32) else (1 : Int32) else if a6 = 0 then if a1 = 2 then if a4 = 0 then if a5 = 0 then (1 : Int32) else (0 : Int32) else (0 : Int32) else (1 : Int32) else (0 : Int32))) = 0 then (2 : Int32) else if (S.1 85) = 4 then (3 : Int32) else (0 : Int32))), S.2)))
set_option maxHeartbeats 4000000 in
theorem C_X8_step {M : qm_G} {d : Nat} (a1 a2 a3 a4 a5 a6 : Int32) (S : qm_S) (K : Int32 → qm_S → Prop) (h : T_X8_step a1 a2 a3 a4 a5 a6 S K) : qm_C M (d + 2) I_X8_step [.ref M.2.2.1, .int a1, .int a2, .int a3, .int a4, .int a5, .int a6] S (fun v S' => ∃ r, v = some (.int r) ∧ K r S') := by
  refine qm_C.of (by decide) rfl (ls := [some (.ref M.2.2.1), some (.int a1), some (.int a2), some (.int a3), some (.int a4), some (.int a5), some (.int a6), none]) rfl (Nat.le_of_ble_eq_true rfl) (qm_ct rfl) ?_
  unfold T_X8_step at h
  refine qm_iload_n E_X8_step (by rfl) dX8_step_0 ?_
  refine qm_iconst E_X8_step 0 (by decide) dX8_step_1 ?_
  refine qm_iconst E_X8_step 2 (by decide) dX8_step_2 ?_
  refine qm_callS (As := [.int a1, .int 0, .int 2]) (rest := []) E_X8_step rfl M_X8_in rfl q1951 q1952 rfl rfl (Nat.le_of_ble_eq_true rfl) dX8_step_3 (C_X8_in (d := d + 1) a1 0 2 S _ ?_)
  have Jv10 : ∀ v10 : Int32, v10 = (if (f_X8_in a1 0 2) = 0 then (0 : Int32) else if a1 = 0 then if a1 = 2 then if a4 = 0 then if a5 = 0 then (1 : Int32) else (0 : Int32) else (0 : Int32) else (1 : Int32) else if a6 = 0 then if a1 = 2 then if a4 = 0 then if a5 = 0 then (1 : Int32) else (0 : Int32) else (0 : Int32) else (1 : Int32) else (0 : Int32)) → qm_wp M (d + 2) I_X8_step 38 [some (.ref M.2.2.1), some (.int a1), some (.int a2), some (.int a3), some (.int a4), some (.int a5), some (.int a6), none] [.int v10] S (fun v S' => ∃ r, v = some (.int r) ∧ K r S') := by
    rintro _ rfl
    refine qm_istore E_X8_step (by decide) dX8_step_38 ?_
    refine qm_aload_n E_X8_step (by rfl) dX8_step_40 ?_
    refine qm_iload_n E_X8_step (by rfl) dX8_step_41 ?_
    refine qm_callS (As := [.int a2]) (rest := [.ref M.2.2.1]) E_X8_step rfl M_X8_isSource rfl q1948 q1949 rfl rfl (Nat.le_of_ble_eq_true rfl) dX8_step_42 (C_X8_isSource (d := d) a2 S _ ?_)
    have Jv14 : ∀ v14 : Int32, v14 = (if (f_X8_isSource a2) = 0 then (1 : Int32) else if ((if (f_X8_in a1 0 2) = 0 then (0 : Int32) else if a1 = 0 then if a1 = 2 then if a4 = 0 then if a5 = 0 then (1 : Int32) else (0 : Int32) else (0 : Int32) else (1 : Int32) else if a6 = 0 then if a1 = 2 then if a4 = 0 then if a5 = 0 then (1 : Int32) else (0 : Int32) else (0 : Int32) else (1 : Int32) else (0 : Int32))) = 0 then (2 : Int32) else if (S.1 85) = 4 then (3 : Int32) else (0 : Int32)) → qm_wp M (d + 2) I_X8_step 74 [some (.ref M.2.2.1), some (.int a1), some (.int a2), some (.int a3), some (.int a4), some (.int a5), some (.int a6), some (.int ((if (f_X8_in a1 0 2) = 0 then (0 : Int32) else if a1 = 0 then if a1 = 2 then if a4 = 0 then if a5 = 0 then (1 : Int32) else (0 : Int32) else (0 : Int32) else (1 : Int32) else if a6 = 0 then if a1 = 2 then if a4 = 0 then if a5 = 0 then (1 : Int32) else (0 : Int32) else (0 : Int32) else (1 : Int32) else (0 : Int32))))] [.int v14, .ref M.2.2.1] S (fun v S' => ∃ r, v = some (.int r) ∧ K r S') := by
      rintro _ rfl
      refine qm_put E_X8_step rfl 0 (by decide) q1657 rfl rfl rfl (qm_set0) dX8_step_74 ?_
      refine qm_aload_n E_X8_step (by rfl) dX8_step_77 ?_
      refine qm_get E_X8_step rfl 0 (by decide) q1657 (v := .int ((if (f_X8_isSource a2) = 0 then (1 : Int32) else if ((if (f_X8_in a1 0 2) = 0 then (0 : Int32) else if a1 = 0 then if a1 = 2 then if a4 = 0 then if a5 = 0 then (1 : Int32) else (0 : Int32) else (0 : Int32) else (1 : Int32) else if a6 = 0 then if a1 = 2 then if a4 = 0 then if a5 = 0 then (1 : Int32) else (0 : Int32) else (0 : Int32) else (1 : Int32) else (0 : Int32))) = 0 then (2 : Int32) else if (S.1 85) = 4 then (3 : Int32) else (0 : Int32)))) rfl dX8_step_78 ?_
      refine qm_if_le E_X8_step 86 dX8_step_81 (by decide) (fun (c15 : ((if (f_X8_isSource a2) = 0 then (1 : Int32) else if ((if (f_X8_in a1 0 2) = 0 then (0 : Int32) else if a1 = 0 then if a1 = 2 then if a4 = 0 then if a5 = 0 then (1 : Int32) else (0 : Int32) else (0 : Int32) else (1 : Int32) else if a6 = 0 then if a1 = 2 then if a4 = 0 then if a5 = 0 then (1 : Int32) else (0 : Int32) else (0 : Int32) else (1 : Int32) else (0 : Int32))) = 0 then (2 : Int32) else if (S.1 85) = 4 then (3 : Int32) else (0 : Int32))) ≤ 0) => ?_) (fun (c15 : ¬ ((if (f_X8_isSource a2) = 0 then (1 : Int32) else if ((if (f_X8_in a1 0 2) = 0 then (0 : Int32) else if a1 = 0 then if a1 = 2 then if a4 = 0 then if a5 = 0 then (1 : Int32) else (0 : Int32) else (0 : Int32) else (1 : Int32) else if a6 = 0 then if a1 = 2 then if a4 = 0 then if a5 = 0 then (1 : Int32) else (0 : Int32) else (0 : Int32) else (1 : Int32) else (0 : Int32))) = 0 then (2 : Int32) else if (S.1 85) = 4 then (3 : Int32) else (0 : Int32))) ≤ 0) => ?_)
      · have h := h.1 c15
        refine qm_aload_n E_X8_step (by rfl) dX8_step_86 ?_
        refine qm_get E_X8_step rfl 86 (by decide) q1743 (v := .ref (M.2.2.2 86)) rfl dX8_step_87 ?_
        refine qm_aload_n E_X8_step (by rfl) dX8_step_90 ?_
        refine qm_get E_X8_step rfl 85 (by decide) q1742 (v := .int (S.1 85)) rfl dX8_step_91 ?_
        refine qm_iload_n E_X8_step (by rfl) dX8_step_94 ?_
        obtain ⟨o16, h⟩ := h
        refine qm_iast E_X8_step 86 (by decide) rfl o16 dX8_step_95 ?_
        refine qm_aload_n E_X8_step (by rfl) dX8_step_96 ?_
        refine qm_get E_X8_step rfl 87 (by decide) q1744 (v := .ref (M.2.2.2 87)) rfl dX8_step_97 ?_
        refine qm_aload_n E_X8_step (by rfl) dX8_step_100 ?_
        refine qm_get E_X8_step rfl 85 (by decide) q1742 (v := .int (S.1 85)) rfl dX8_step_101 ?_
        refine qm_iload_n E_X8_step (by rfl) dX8_step_104 ?_
        obtain ⟨o17, h⟩ := h
        refine qm_iast E_X8_step 87 (by decide) rfl o17 dX8_step_105 ?_
        refine qm_aload_n E_X8_step (by rfl) dX8_step_106 ?_
        refine qm_get E_X8_step rfl 88 (by decide) q1745 (v := .ref (M.2.2.2 88)) rfl dX8_step_107 ?_
        refine qm_aload_n E_X8_step (by rfl) dX8_step_110 ?_
        refine qm_get E_X8_step rfl 85 (by decide) q1742 (v := .int (S.1 85)) rfl dX8_step_111 ?_
        refine qm_iload_n E_X8_step (by rfl) dX8_step_114 ?_
        obtain ⟨o18, h⟩ := h
        refine qm_iast E_X8_step 88 (by decide) rfl o18 dX8_step_115 ?_
        refine qm_aload_n E_X8_step (by rfl) dX8_step_116 ?_
        refine qm_get E_X8_step rfl 89 (by decide) q1746 (v := .ref (M.2.2.2 89)) rfl dX8_step_117 ?_
        refine qm_aload_n E_X8_step (by rfl) dX8_step_120 ?_
        refine qm_get E_X8_step rfl 85 (by decide) q1742 (v := .int (S.1 85)) rfl dX8_step_121 ?_
        refine qm_iload E_X8_step (by rfl) dX8_step_124 ?_
        obtain ⟨o19, h⟩ := h
        refine qm_iast E_X8_step 89 (by decide) rfl o19 dX8_step_126 ?_
        refine qm_aload_n E_X8_step (by rfl) dX8_step_127 ?_
        refine qm_get E_X8_step rfl 90 (by decide) q1747 (v := .ref (M.2.2.2 90)) rfl dX8_step_128 ?_
        refine qm_aload_n E_X8_step (by rfl) dX8_step_131 ?_
        refine qm_get E_X8_step rfl 85 (by decide) q1742 (v := .int (S.1 85)) rfl dX8_step_132 ?_
        refine qm_iload E_X8_step (by rfl) dX8_step_135 ?_
        obtain ⟨o20, h⟩ := h
        refine qm_iast E_X8_step 90 (by decide) rfl o20 dX8_step_137 ?_
        refine qm_aload_n E_X8_step (by rfl) dX8_step_138 ?_
        refine qm_get E_X8_step rfl 91 (by decide) q1748 (v := .ref (M.2.2.2 91)) rfl dX8_step_139 ?_
        refine qm_aload_n E_X8_step (by rfl) dX8_step_142 ?_
        refine qm_get E_X8_step rfl 85 (by decide) q1742 (v := .int (S.1 85)) rfl dX8_step_143 ?_
        refine qm_iload E_X8_step (by rfl) dX8_step_146 ?_
        obtain ⟨o21, h⟩ := h
        refine qm_iast E_X8_step 91 (by decide) rfl o21 dX8_step_148 ?_
        refine qm_aload_n E_X8_step (by rfl) dX8_step_149 ?_
        refine qm_dup E_X8_step rfl dX8_step_150 ?_
        refine qm_get E_X8_step rfl 85 (by decide) q1742 (v := .int (S.1 85)) rfl dX8_step_151 ?_
        refine qm_iconst E_X8_step 1 (by decide) dX8_step_154 ?_
        refine qm_iadd E_X8_step dX8_step_155 ?_
        refine qm_put E_X8_step rfl 85 (by decide) q1742 rfl rfl rfl (qm_set85) dX8_step_156 ?_
        refine qm_aload_n E_X8_step (by rfl) dX8_step_159 ?_
        refine qm_get E_X8_step rfl 85 (by decide) q1742 (v := .int ((S.1 85) + 1)) rfl dX8_step_160 ?_
        exact qm_iret E_X8_step rfl dX8_step_163 ⟨_, rfl, h⟩
      · have h := h.2 c15
        refine qm_iconst E_X8_step 0 (by decide) dX8_step_84 ?_
        exact qm_iret E_X8_step rfl dX8_step_85 ⟨_, rfl, h⟩
    refine qm_if_ne E_X8_step 52 dX8_step_45 (by decide) (fun (c11 : ¬ (f_X8_isSource a2) = 0) => ?_) (fun (c11 : (f_X8_isSource a2) = 0) => ?_)
    · refine qm_iload E_X8_step (by rfl) dX8_step_52 ?_
      refine qm_if_ne E_X8_step 61 dX8_step_54 (by decide) (fun (c12 : ¬ ((if (f_X8_in a1 0 2) = 0 then (0 : Int32) else if a1 = 0 then if a1 = 2 then if a4 = 0 then if a5 = 0 then (1 : Int32) else (0 : Int32) else (0 : Int32) else (1 : Int32) else if a6 = 0 then if a1 = 2 then if a4 = 0 then if a5 = 0 then (1 : Int32) else (0 : Int32) else (0 : Int32) else (1 : Int32) else (0 : Int32))) = 0) => ?_) (fun (c12 : ((if (f_X8_in a1 0 2) = 0 then (0 : Int32) else if a1 = 0 then if a1 = 2 then if a4 = 0 then if a5 = 0 then (1 : Int32) else (0 : Int32) else (0 : Int32) else (1 : Int32) else if a6 = 0 then if a1 = 2 then if a4 = 0 then if a5 = 0 then (1 : Int32) else (0 : Int32) else (0 : Int32) else (1 : Int32) else (0 : Int32))) = 0) => ?_)
      · refine qm_aload_n E_X8_step (by rfl) dX8_step_61 ?_
        refine qm_get E_X8_step rfl 85 (by decide) q1742 (v := .int (S.1 85)) rfl dX8_step_62 ?_
        refine qm_iconst E_X8_step 4 (by decide) dX8_step_65 ?_
        refine qm_icmp_ne E_X8_step 73 dX8_step_66 (by decide) (fun (c13 : ¬ (S.1 85) = 4) => ?_) (fun (c13 : (S.1 85) = 4) => ?_)
        · refine qm_iconst E_X8_step 0 (by decide) dX8_step_73 ?_
          exact Jv14 ((0 : Int32)) (by rw [if_neg c11, if_neg c12, if_neg c13])
        · refine qm_iconst E_X8_step 3 (by decide) dX8_step_69 ?_
          refine qm_goto E_X8_step 74 dX8_step_70 (by decide) ?_
          exact Jv14 ((3 : Int32)) (by rw [if_neg c11, if_neg c12, if_pos c13])
      · refine qm_iconst E_X8_step 2 (by decide) dX8_step_57 ?_
        refine qm_goto E_X8_step 74 dX8_step_58 (by decide) ?_
        exact Jv14 ((2 : Int32)) (by rw [if_neg c11, if_pos c12])
    · refine qm_iconst E_X8_step 1 (by decide) dX8_step_48 ?_
      refine qm_goto E_X8_step 74 dX8_step_49 (by decide) ?_
      exact Jv14 ((1 : Int32)) (by rw [if_pos c11])
  refine qm_if_eq E_X8_step 37 dX8_step_6 (by decide) (fun (c1 : (f_X8_in a1 0 2) = 0) => ?_) (fun (c1 : ¬ (f_X8_in a1 0 2) = 0) => ?_)
  · refine qm_iconst E_X8_step 0 (by decide) dX8_step_37 ?_
    exact Jv10 ((0 : Int32)) (by rw [if_pos c1])
  · refine qm_iload_n E_X8_step (by rfl) dX8_step_9 ?_
    refine qm_if_eq E_X8_step 18 dX8_step_10 (by decide) (fun (c2 : a1 = 0) => ?_) (fun (c2 : ¬ a1 = 0) => ?_)
    · refine qm_iload_n E_X8_step (by rfl) dX8_step_18 ?_
      refine qm_iconst E_X8_step 2 (by decide) dX8_step_19 ?_
      refine qm_icmp_ne E_X8_step 33 dX8_step_20 (by decide) (fun (c3 : ¬ a1 = 2) => ?_) (fun (c3 : a1 = 2) => ?_)
      · refine qm_iconst E_X8_step 1 (by decide) dX8_step_33 ?_
        refine qm_goto E_X8_step 38 dX8_step_34 (by decide) ?_
        exact Jv10 ((1 : Int32)) (by rw [if_neg c1, if_pos c2, if_neg c3])
      · refine qm_iload E_X8_step (by rfl) dX8_step_23 ?_
        refine qm_if_ne E_X8_step 37 dX8_step_25 (by decide) (fun (c4 : ¬ a4 = 0) => ?_) (fun (c4 : a4 = 0) => ?_)
        · refine qm_iconst E_X8_step 0 (by decide) dX8_step_37 ?_
          exact Jv10 ((0 : Int32)) (by rw [if_neg c1, if_pos c2, if_pos c3, if_neg c4])
        · refine qm_iload E_X8_step (by rfl) dX8_step_28 ?_
          refine qm_if_ne E_X8_step 37 dX8_step_30 (by decide) (fun (c5 : ¬ a5 = 0) => ?_) (fun (c5 : a5 = 0) => ?_)
          · refine qm_iconst E_X8_step 0 (by decide) dX8_step_37 ?_
            exact Jv10 ((0 : Int32)) (by rw [if_neg c1, if_pos c2, if_pos c3, if_pos c4, if_neg c5])
          · refine qm_iconst E_X8_step 1 (by decide) dX8_step_33 ?_
            refine qm_goto E_X8_step 38 dX8_step_34 (by decide) ?_
            exact Jv10 ((1 : Int32)) (by rw [if_neg c1, if_pos c2, if_pos c3, if_pos c4, if_pos c5])
    · refine qm_iload E_X8_step (by rfl) dX8_step_13 ?_
      refine qm_if_ne E_X8_step 37 dX8_step_15 (by decide) (fun (c6 : ¬ a6 = 0) => ?_) (fun (c6 : a6 = 0) => ?_)
      · refine qm_iconst E_X8_step 0 (by decide) dX8_step_37 ?_
        exact Jv10 ((0 : Int32)) (by rw [if_neg c1, if_neg c2, if_neg c6])
      · refine qm_iload_n E_X8_step (by rfl) dX8_step_18 ?_
        refine qm_iconst E_X8_step 2 (by decide) dX8_step_19 ?_
        refine qm_icmp_ne E_X8_step 33 dX8_step_20 (by decide) (fun (c7 : ¬ a1 = 2) => ?_) (fun (c7 : a1 = 2) => ?_)
        · refine qm_iconst E_X8_step 1 (by decide) dX8_step_33 ?_
          refine qm_goto E_X8_step 38 dX8_step_34 (by decide) ?_
          exact Jv10 ((1 : Int32)) (by rw [if_neg c1, if_neg c2, if_pos c6, if_neg c7])
        · refine qm_iload E_X8_step (by rfl) dX8_step_23 ?_
          refine qm_if_ne E_X8_step 37 dX8_step_25 (by decide) (fun (c8 : ¬ a4 = 0) => ?_) (fun (c8 : a4 = 0) => ?_)
          · refine qm_iconst E_X8_step 0 (by decide) dX8_step_37 ?_
            exact Jv10 ((0 : Int32)) (by rw [if_neg c1, if_neg c2, if_pos c6, if_pos c7, if_neg c8])
          · refine qm_iload E_X8_step (by rfl) dX8_step_28 ?_
            refine qm_if_ne E_X8_step 37 dX8_step_30 (by decide) (fun (c9 : ¬ a5 = 0) => ?_) (fun (c9 : a5 = 0) => ?_)
            · refine qm_iconst E_X8_step 0 (by decide) dX8_step_37 ?_
              exact Jv10 ((0 : Int32)) (by rw [if_neg c1, if_neg c2, if_pos c6, if_pos c7, if_pos c8, if_neg c9])
            · refine qm_iconst E_X8_step 1 (by decide) dX8_step_33 ?_
              refine qm_goto E_X8_step 38 dX8_step_34 (by decide) ?_
              exact Jv10 ((1 : Int32)) (by rw [if_neg c1, if_neg c2, if_pos c6, if_pos c7, if_pos c8, if_pos c9])
def I_X8_canStep : qh_I := (yX8_canStep, cX8_canStep, 3, (Option.some Jvm.ClassFile.FieldType.boolean), [])
theorem E_X8_canStep : I_X8_canStep.2.1 = cX8_canStep := rfl
theorem M_X8_canStep : qh_M I_X8_canStep 1 := ⟨by decide, by decide, by decide +kernel, q95, q2312, by decide⟩
def T_X8_canStep (a1 : Int32) (S : qm_S) (K : Int32 → Prop) : Prop := vp_in a1 (qm_len 87) ∧ vp_in a1 (qm_len 86) ∧ (¬ (S.2 86 a1.toNatClampNeg) = 0 → (¬ (S.2 86 a1.toNatClampNeg) = 1 → vp_in a1 (qm_len 88) ∧ T_X8_placeOf (S.2 87 a1.toNatClampNeg) (S.2 88 a1.toNatClampNeg) S (fun r6 => (r6 = ((-1)) → K 0) ∧ (¬ r6 = ((-1)) → K 1))) ∧ ((S.2 86 a1.toNatClampNeg) = 1 → vp_in a1 (qm_len 88) ∧ vp_in a1 (qm_len 89) ∧ vp_in a1 (qm_len 90) ∧ T_X8_canChange (S.2 87 a1.toNatClampNeg) (S.2 88 a1.toNatClampNeg) (S.2 89 a1.toNatClampNeg) (S.2 90 a1.toNatClampNeg) S (fun r12 => (¬ r12 = 0 → K 0) ∧ (r12 = 0 → K 1)))) ∧ ((S.2 86 a1.toNatClampNeg) = 0 → vp_in a1 (qm_len 88) ∧ vp_in a1 (qm_len 89) ∧ vp_in a1 (qm_len 90) ∧ vp_in a1 (qm_len 91) ∧ T_X8_canAdd (S.2 87 a1.toNatClampNeg) (S.2 88 a1.toNatClampNeg) (S.2 89 a1.toNatClampNeg) (S.2 90 a1.toNatClampNeg) (S.2 91 a1.toNatClampNeg) S (fun r19 => (¬ r19 = 0 → K 0) ∧ (r19 = 0 → K 1)))
set_option maxHeartbeats 4000000 in
theorem C_X8_canStep {M : qm_G} {d : Nat} (a1 : Int32) (S : qm_S) (K : Int32 → Prop) (h : T_X8_canStep a1 S K) : qm_C M (d + 4) I_X8_canStep [.ref M.2.2.1, .int a1] S (fun v S' => ∃ r, v = some (.int r) ∧ (r = 0 ∨ r = 1) ∧ S = S' ∧ K r) := by
  refine qm_C.of (by decide) rfl (ls := [some (.ref M.2.2.1), some (.int a1), none]) rfl (Nat.le_of_ble_eq_true rfl) (qm_ct rfl) ?_
  unfold T_X8_canStep at h
  refine qm_aload_n E_X8_canStep (by rfl) dX8_canStep_0 ?_
  refine qm_get E_X8_canStep rfl 87 (by decide) q1744 (v := .ref (M.2.2.2 87)) rfl dX8_canStep_1 ?_
  refine qm_iload_n E_X8_canStep (by rfl) dX8_canStep_4 ?_
  obtain ⟨o1, h⟩ := h
  refine qm_iald E_X8_canStep 87 (by decide) rfl o1 dX8_canStep_5 ?_
  refine qm_istore_n E_X8_canStep (by decide) dX8_canStep_6 ?_
  refine qm_aload_n E_X8_canStep (by rfl) dX8_canStep_7 ?_
  refine qm_get E_X8_canStep rfl 86 (by decide) q1743 (v := .ref (M.2.2.2 86)) rfl dX8_canStep_8 ?_
  refine qm_iload_n E_X8_canStep (by rfl) dX8_canStep_11 ?_
  obtain ⟨o2, h⟩ := h
  refine qm_iald E_X8_canStep 86 (by decide) rfl o2 dX8_canStep_12 ?_
  refine qm_if_ne E_X8_canStep 54 dX8_canStep_13 (by decide) (fun (c3 : ¬ (S.2 86 a1.toNatClampNeg) = 0) => ?_) (fun (c3 : (S.2 86 a1.toNatClampNeg) = 0) => ?_)
  · have h := h.1 c3
    refine qm_aload_n E_X8_canStep (by rfl) dX8_canStep_54 ?_
    refine qm_get E_X8_canStep rfl 86 (by decide) q1743 (v := .ref (M.2.2.2 86)) rfl dX8_canStep_55 ?_
    refine qm_iload_n E_X8_canStep (by rfl) dX8_canStep_58 ?_
    refine qm_iald E_X8_canStep 86 (by decide) rfl o2 dX8_canStep_59 ?_
    refine qm_iconst E_X8_canStep 1 (by decide) dX8_canStep_60 ?_
    refine qm_icmp_ne E_X8_canStep 98 dX8_canStep_61 (by decide) (fun (c4 : ¬ (S.2 86 a1.toNatClampNeg) = 1) => ?_) (fun (c4 : (S.2 86 a1.toNatClampNeg) = 1) => ?_)
    · have h := h.1 c4
      refine qm_aload_n E_X8_canStep (by rfl) dX8_canStep_98 ?_
      refine qm_iload_n E_X8_canStep (by rfl) dX8_canStep_99 ?_
      refine qm_aload_n E_X8_canStep (by rfl) dX8_canStep_100 ?_
      refine qm_get E_X8_canStep rfl 88 (by decide) q1745 (v := .ref (M.2.2.2 88)) rfl dX8_canStep_101 ?_
      refine qm_iload_n E_X8_canStep (by rfl) dX8_canStep_104 ?_
      obtain ⟨o5, h⟩ := h
      refine qm_iald E_X8_canStep 88 (by decide) rfl o5 dX8_canStep_105 ?_
      refine qm_callV (As := [.int (S.2 87 a1.toNatClampNeg), .int (S.2 88 a1.toNatClampNeg)]) (rest := []) E_X8_canStep rfl M_X8_placeOf rfl q1970 q1972 qs34 rfl rfl rfl (Nat.le_of_ble_eq_true rfl) dX8_canStep_106 (qm_C.mono ?_ (C_X8_placeOf (d := d + 3) (S.2 87 a1.toNatClampNeg) (S.2 88 a1.toNatClampNeg) S _ h))
      rintro _ _ ⟨r6, rfl, rfl, h⟩
      refine qm_iconst E_X8_canStep (-1) (by decide) dX8_canStep_109 ?_
      refine qm_icmp_eq E_X8_canStep 117 dX8_canStep_110 (by decide) (fun (c8 : r6 = ((-1))) => ?_) (fun (c8 : ¬ r6 = ((-1))) => ?_)
      · have h := h.1 c8
        refine qm_iconst E_X8_canStep 0 (by decide) dX8_canStep_117 ?_
        exact qm_zret E_X8_canStep rfl (qm_nb (Or.inl rfl)) dX8_canStep_118 ⟨_, rfl, (Or.inl rfl), rfl, h⟩
      · have h := h.2 c8
        refine qm_iconst E_X8_canStep 1 (by decide) dX8_canStep_113 ?_
        refine qm_goto E_X8_canStep 118 dX8_canStep_114 (by decide) ?_
        exact qm_zret E_X8_canStep rfl (qm_nb (Or.inr rfl)) dX8_canStep_118 ⟨_, rfl, (Or.inr rfl), rfl, h⟩
    · have h := h.2 c4
      refine qm_aload_n E_X8_canStep (by rfl) dX8_canStep_64 ?_
      refine qm_iload_n E_X8_canStep (by rfl) dX8_canStep_65 ?_
      refine qm_aload_n E_X8_canStep (by rfl) dX8_canStep_66 ?_
      refine qm_get E_X8_canStep rfl 88 (by decide) q1745 (v := .ref (M.2.2.2 88)) rfl dX8_canStep_67 ?_
      refine qm_iload_n E_X8_canStep (by rfl) dX8_canStep_70 ?_
      obtain ⟨o9, h⟩ := h
      refine qm_iald E_X8_canStep 88 (by decide) rfl o9 dX8_canStep_71 ?_
      refine qm_aload_n E_X8_canStep (by rfl) dX8_canStep_72 ?_
      refine qm_get E_X8_canStep rfl 89 (by decide) q1746 (v := .ref (M.2.2.2 89)) rfl dX8_canStep_73 ?_
      refine qm_iload_n E_X8_canStep (by rfl) dX8_canStep_76 ?_
      obtain ⟨o10, h⟩ := h
      refine qm_iald E_X8_canStep 89 (by decide) rfl o10 dX8_canStep_77 ?_
      refine qm_aload_n E_X8_canStep (by rfl) dX8_canStep_78 ?_
      refine qm_get E_X8_canStep rfl 90 (by decide) q1747 (v := .ref (M.2.2.2 90)) rfl dX8_canStep_79 ?_
      refine qm_iload_n E_X8_canStep (by rfl) dX8_canStep_82 ?_
      obtain ⟨o11, h⟩ := h
      refine qm_iald E_X8_canStep 90 (by decide) rfl o11 dX8_canStep_83 ?_
      refine qm_callV (As := [.int (S.2 87 a1.toNatClampNeg), .int (S.2 88 a1.toNatClampNeg), .int (S.2 89 a1.toNatClampNeg), .int (S.2 90 a1.toNatClampNeg)]) (rest := []) E_X8_canStep rfl M_X8_canChange rfl q2002 q2004 qs41 rfl rfl rfl (Nat.le_of_ble_eq_true rfl) dX8_canStep_84 (qm_C.mono ?_ (C_X8_canChange (d := d) (S.2 87 a1.toNatClampNeg) (S.2 88 a1.toNatClampNeg) (S.2 89 a1.toNatClampNeg) (S.2 90 a1.toNatClampNeg) S _ h))
      rintro _ _ ⟨r12, rfl, rfl, h⟩
      refine qm_if_ne E_X8_canStep 94 dX8_canStep_87 (by decide) (fun (c14 : ¬ r12 = 0) => ?_) (fun (c14 : r12 = 0) => ?_)
      · have h := h.1 c14
        refine qm_iconst E_X8_canStep 0 (by decide) dX8_canStep_94 ?_
        refine qm_goto E_X8_canStep 118 dX8_canStep_95 (by decide) ?_
        exact qm_zret E_X8_canStep rfl (qm_nb (Or.inl rfl)) dX8_canStep_118 ⟨_, rfl, (Or.inl rfl), rfl, h⟩
      · have h := h.2 c14
        refine qm_iconst E_X8_canStep 1 (by decide) dX8_canStep_90 ?_
        refine qm_goto E_X8_canStep 118 dX8_canStep_91 (by decide) ?_
        exact qm_zret E_X8_canStep rfl (qm_nb (Or.inr rfl)) dX8_canStep_118 ⟨_, rfl, (Or.inr rfl), rfl, h⟩
  · have h := h.2 c3
    refine qm_aload_n E_X8_canStep (by rfl) dX8_canStep_16 ?_
    refine qm_iload_n E_X8_canStep (by rfl) dX8_canStep_17 ?_
    refine qm_aload_n E_X8_canStep (by rfl) dX8_canStep_18 ?_
    refine qm_get E_X8_canStep rfl 88 (by decide) q1745 (v := .ref (M.2.2.2 88)) rfl dX8_canStep_19 ?_
    refine qm_iload_n E_X8_canStep (by rfl) dX8_canStep_22 ?_
    obtain ⟨o15, h⟩ := h
    refine qm_iald E_X8_canStep 88 (by decide) rfl o15 dX8_canStep_23 ?_
    refine qm_aload_n E_X8_canStep (by rfl) dX8_canStep_24 ?_
    refine qm_get E_X8_canStep rfl 89 (by decide) q1746 (v := .ref (M.2.2.2 89)) rfl dX8_canStep_25 ?_
    refine qm_iload_n E_X8_canStep (by rfl) dX8_canStep_28 ?_
    obtain ⟨o16, h⟩ := h
    refine qm_iald E_X8_canStep 89 (by decide) rfl o16 dX8_canStep_29 ?_
    refine qm_aload_n E_X8_canStep (by rfl) dX8_canStep_30 ?_
    refine qm_get E_X8_canStep rfl 90 (by decide) q1747 (v := .ref (M.2.2.2 90)) rfl dX8_canStep_31 ?_
    refine qm_iload_n E_X8_canStep (by rfl) dX8_canStep_34 ?_
    obtain ⟨o17, h⟩ := h
    refine qm_iald E_X8_canStep 90 (by decide) rfl o17 dX8_canStep_35 ?_
    refine qm_aload_n E_X8_canStep (by rfl) dX8_canStep_36 ?_
    refine qm_get E_X8_canStep rfl 91 (by decide) q1748 (v := .ref (M.2.2.2 91)) rfl dX8_canStep_37 ?_
    refine qm_iload_n E_X8_canStep (by rfl) dX8_canStep_40 ?_
    obtain ⟨o18, h⟩ := h
    refine qm_iald E_X8_canStep 91 (by decide) rfl o18 dX8_canStep_41 ?_
    refine qm_callV (As := [.int (S.2 87 a1.toNatClampNeg), .int (S.2 88 a1.toNatClampNeg), .int (S.2 89 a1.toNatClampNeg), .int (S.2 90 a1.toNatClampNeg), .int (S.2 91 a1.toNatClampNeg)]) (rest := []) E_X8_canStep rfl M_X8_canAdd rfl q1954 q1956 qs33 rfl rfl rfl (Nat.le_of_ble_eq_true rfl) dX8_canStep_42 (qm_C.mono ?_ (C_X8_canAdd (d := d) (S.2 87 a1.toNatClampNeg) (S.2 88 a1.toNatClampNeg) (S.2 89 a1.toNatClampNeg) (S.2 90 a1.toNatClampNeg) (S.2 91 a1.toNatClampNeg) S _ h))
    rintro _ _ ⟨r19, rfl, rfl, h⟩
    refine qm_if_ne E_X8_canStep 52 dX8_canStep_45 (by decide) (fun (c21 : ¬ r19 = 0) => ?_) (fun (c21 : r19 = 0) => ?_)
    · have h := h.1 c21
      refine qm_iconst E_X8_canStep 0 (by decide) dX8_canStep_52 ?_
      exact qm_zret E_X8_canStep rfl (qm_nb (Or.inl rfl)) dX8_canStep_53 ⟨_, rfl, (Or.inl rfl), rfl, h⟩
    · have h := h.2 c21
      refine qm_iconst E_X8_canStep 1 (by decide) dX8_canStep_48 ?_
      refine qm_goto E_X8_canStep 53 dX8_canStep_49 (by decide) ?_
      exact qm_zret E_X8_canStep rfl (qm_nb (Or.inr rfl)) dX8_canStep_53 ⟨_, rfl, (Or.inr rfl), rfl, h⟩
def I_X8_doesStep : qh_I := (yX8_doesStep, cX8_doesStep, 4, (Option.none : Option Jvm.ClassFile.FieldType), [])
theorem E_X8_doesStep : I_X8_doesStep.2.1 = cX8_doesStep := rfl
theorem M_X8_doesStep : qh_M I_X8_doesStep 1 := ⟨by decide, by decide, by decide +kernel, q95, q2316, by decide⟩
def T_X8_doesStep (a1 : Int32) (S : qm_S) (K : qm_S → Prop) : Prop := vp_in a1 (qm_len 87) ∧ vp_in a1 (qm_len 88) ∧ vp_in a1 (qm_len 92) ∧ vp_in a1 (qm_len 86) ∧ (¬ (S.2 86 a1.toNatClampNeg) = 0 → (¬ (S.2 86 a1.toNatClampNeg) = 1 → ∀ X7 : Int32 → qm_S → Prop, (∀ (x8 : Int32) (S9 : qm_S), ((4 ≤ x8 → T_X8_takesOut (S.2 87 a1.toNatClampNeg) (S9.2 88 a1.toNatClampNeg) S9 (fun S11 => K S11)) ∧ (¬ 4 ≤ x8 → T_X8_placeOf (S.2 87 a1.toNatClampNeg) (S9.2 88 a1.toNatClampNeg) S9 (fun r12 => vp_in ((4 * ((12 * (S.2 87 a1.toNatClampNeg)) + r12)) + x8) (qm_len 3) ∧ vp_in ((4 * a1) + x8) (qm_len 93) ∧ X7 (x8 + 1) ((S9.1, qm_uA S9.2 93 (upd (S9.2 93) ((4 * a1) + x8).toNatClampNeg (S9.2 3 ((4 * ((12 * (S.2 87 a1.toNatClampNeg)) + r12)) + x8).toNatClampNeg))))))) → X7 x8 S9) → X7 0 ((S.1, qm_uA S.2 92 (upd (S.2 92) a1.toNatClampNeg (S.2 88 a1.toNatClampNeg))))) ∧ ((S.2 86 a1.toNatClampNeg) = 1 → vp_in a1 (qm_len 89) ∧ vp_in a1 (qm_len 90) ∧ T_X8_kept (S.2 87 a1.toNatClampNeg) (S.2 89 a1.toNatClampNeg) (S.2 90 a1.toNatClampNeg) ((S.1, qm_uA S.2 92 (upd (S.2 92) a1.toNatClampNeg (S.2 88 a1.toNatClampNeg)))) (fun r18 S20 => T_X8_puts (S.2 87 a1.toNatClampNeg) (S.2 88 a1.toNatClampNeg) (S.2 89 a1.toNatClampNeg) r18 S20 (fun r21 S23 => vp_in (4 * a1) (qm_len 93) ∧ K ((S23.1, qm_uA S23.2 93 (upd (S23.2 93) (4 * a1).toNatClampNeg r21))))))) ∧ ((S.2 86 a1.toNatClampNeg) = 0 → vp_in a1 (qm_len 89) ∧ vp_in a1 (qm_len 90) ∧ vp_in a1 (qm_len 91) ∧ T_X8_adds (S.2 87 a1.toNatClampNeg) (S.2 88 a1.toNatClampNeg) (S.2 89 a1.toNatClampNeg) (S.2 90 a1.toNatClampNeg) (S.2 91 a1.toNatClampNeg) ((S.1, qm_uA S.2 92 (upd (S.2 92) a1.toNatClampNeg (S.2 88 a1.toNatClampNeg)))) (fun r28 S30 => K ((S30.1, qm_uA S30.2 92 (upd (S30.2 92) a1.toNatClampNeg r28)))))
set_option maxHeartbeats 4000000 in
theorem C_X8_doesStep {M : qm_G} {d : Nat} (a1 : Int32) (S : qm_S) (K : qm_S → Prop) (h : T_X8_doesStep a1 S K) : qm_C M (d + 5) I_X8_doesStep [.ref M.2.2.1, .int a1] S (fun v S' => v = none ∧ K S') := by
  refine qm_C.of (by decide) rfl (ls := [some (.ref M.2.2.1), some (.int a1), none, none]) rfl (Nat.le_of_ble_eq_true rfl) (qm_ct rfl) ?_
  unfold T_X8_doesStep at h
  refine qm_aload_n E_X8_doesStep (by rfl) dX8_doesStep_0 ?_
  refine qm_get E_X8_doesStep rfl 87 (by decide) q1744 (v := .ref (M.2.2.2 87)) rfl dX8_doesStep_1 ?_
  refine qm_iload_n E_X8_doesStep (by rfl) dX8_doesStep_4 ?_
  obtain ⟨o1, h⟩ := h
  refine qm_iald E_X8_doesStep 87 (by decide) rfl o1 dX8_doesStep_5 ?_
  refine qm_istore_n E_X8_doesStep (by decide) dX8_doesStep_6 ?_
  refine qm_aload_n E_X8_doesStep (by rfl) dX8_doesStep_7 ?_
  refine qm_get E_X8_doesStep rfl 92 (by decide) q1749 (v := .ref (M.2.2.2 92)) rfl dX8_doesStep_8 ?_
  refine qm_iload_n E_X8_doesStep (by rfl) dX8_doesStep_11 ?_
  refine qm_aload_n E_X8_doesStep (by rfl) dX8_doesStep_12 ?_
  refine qm_get E_X8_doesStep rfl 88 (by decide) q1745 (v := .ref (M.2.2.2 88)) rfl dX8_doesStep_13 ?_
  refine qm_iload_n E_X8_doesStep (by rfl) dX8_doesStep_16 ?_
  obtain ⟨o2, h⟩ := h
  refine qm_iald E_X8_doesStep 88 (by decide) rfl o2 dX8_doesStep_17 ?_
  obtain ⟨o3, h⟩ := h
  refine qm_iast E_X8_doesStep 92 (by decide) rfl o3 dX8_doesStep_18 ?_
  refine qm_aload_n E_X8_doesStep (by rfl) dX8_doesStep_19 ?_
  refine qm_get E_X8_doesStep rfl 86 (by decide) q1743 (v := .ref (M.2.2.2 86)) rfl dX8_doesStep_20 ?_
  refine qm_iload_n E_X8_doesStep (by rfl) dX8_doesStep_23 ?_
  obtain ⟨o4, h⟩ := h
  refine qm_iald E_X8_doesStep 86 (by decide) rfl o4 dX8_doesStep_24 ?_
  refine qm_if_ne E_X8_doesStep 66 dX8_doesStep_25 (by decide) (fun (c5 : ¬ (S.2 86 a1.toNatClampNeg) = 0) => ?_) (fun (c5 : (S.2 86 a1.toNatClampNeg) = 0) => ?_)
  · have h := h.1 c5
    refine qm_aload_n E_X8_doesStep (by rfl) dX8_doesStep_66 ?_
    refine qm_get E_X8_doesStep rfl 86 (by decide) q1743 (v := .ref (M.2.2.2 86)) rfl dX8_doesStep_67 ?_
    refine qm_iload_n E_X8_doesStep (by rfl) dX8_doesStep_70 ?_
    refine qm_iald E_X8_doesStep 86 (by decide) rfl o4 dX8_doesStep_71 ?_
    refine qm_iconst E_X8_doesStep 1 (by decide) dX8_doesStep_72 ?_
    refine qm_icmp_ne E_X8_doesStep 121 dX8_doesStep_73 (by decide) (fun (c6 : ¬ (S.2 86 a1.toNatClampNeg) = 1) => ?_) (fun (c6 : (S.2 86 a1.toNatClampNeg) = 1) => ?_)
    · have h := h.1 c6
      refine qm_iconst E_X8_doesStep 0 (by decide) dX8_doesStep_121 ?_
      refine qm_istore_n E_X8_doesStep (by decide) dX8_doesStep_122 ?_
      refine h (fun x8 S9 => qm_wp M (d + 5) I_X8_doesStep 123 [some (.ref M.2.2.1), some (.int a1), some (.int (S.2 87 a1.toNatClampNeg)), some (.int x8)] [] S9 (fun v S' => v = none ∧ K S')) ?_
      intro x8 S9 h
      refine qm_iload_n E_X8_doesStep (by rfl) dX8_doesStep_123 ?_
      refine qm_iconst E_X8_doesStep 4 (by decide) dX8_doesStep_124 ?_
      refine qm_icmp_ge E_X8_doesStep 169 dX8_doesStep_125 (by decide) (fun (c10 : 4 ≤ x8) => ?_) (fun (c10 : ¬ 4 ≤ x8) => ?_)
      · have h := h.1 c10
        refine qm_aload_n E_X8_doesStep (by rfl) dX8_doesStep_169 ?_
        refine qm_iload_n E_X8_doesStep (by rfl) dX8_doesStep_170 ?_
        refine qm_aload_n E_X8_doesStep (by rfl) dX8_doesStep_171 ?_
        refine qm_get E_X8_doesStep rfl 88 (by decide) q1745 (v := .ref (M.2.2.2 88)) rfl dX8_doesStep_172 ?_
        refine qm_iload_n E_X8_doesStep (by rfl) dX8_doesStep_175 ?_
        refine qm_iald E_X8_doesStep 88 (by decide) rfl o2 dX8_doesStep_176 ?_
        refine qm_callV (As := [.int (S.2 87 a1.toNatClampNeg), .int (S9.2 88 a1.toNatClampNeg)]) (rest := []) E_X8_doesStep rfl M_X8_takesOut rfl q2014 q2016 qs43 rfl rfl rfl (Nat.le_of_ble_eq_true rfl) dX8_doesStep_177 (qm_C.mono ?_ (C_X8_takesOut (d := d + 1) (S.2 87 a1.toNatClampNeg) (S9.2 88 a1.toNatClampNeg) S9 _ h))
        rintro _ S11 ⟨rfl, h⟩
        exact qm_vret E_X8_doesStep rfl dX8_doesStep_180 ⟨rfl, h⟩
      · have h := h.2 c10
        refine qm_aload_n E_X8_doesStep (by rfl) dX8_doesStep_128 ?_
        refine qm_get E_X8_doesStep rfl 93 (by decide) q1750 (v := .ref (M.2.2.2 93)) rfl dX8_doesStep_129 ?_
        refine qm_iconst E_X8_doesStep 4 (by decide) dX8_doesStep_132 ?_
        refine qm_iload_n E_X8_doesStep (by rfl) dX8_doesStep_133 ?_
        refine qm_imul E_X8_doesStep dX8_doesStep_134 ?_
        refine qm_iload_n E_X8_doesStep (by rfl) dX8_doesStep_135 ?_
        refine qm_iadd E_X8_doesStep dX8_doesStep_136 ?_
        refine qm_aload_n E_X8_doesStep (by rfl) dX8_doesStep_137 ?_
        refine qm_get E_X8_doesStep rfl 3 (by decide) q1660 (v := .ref (M.2.2.2 3)) rfl dX8_doesStep_138 ?_
        refine qm_iconst E_X8_doesStep 4 (by decide) dX8_doesStep_141 ?_
        refine qm_bipush E_X8_doesStep 12 (by decide) dX8_doesStep_142 ?_
        refine qm_iload_n E_X8_doesStep (by rfl) dX8_doesStep_144 ?_
        refine qm_imul E_X8_doesStep dX8_doesStep_145 ?_
        refine qm_aload_n E_X8_doesStep (by rfl) dX8_doesStep_146 ?_
        refine qm_iload_n E_X8_doesStep (by rfl) dX8_doesStep_147 ?_
        refine qm_aload_n E_X8_doesStep (by rfl) dX8_doesStep_148 ?_
        refine qm_get E_X8_doesStep rfl 88 (by decide) q1745 (v := .ref (M.2.2.2 88)) rfl dX8_doesStep_149 ?_
        refine qm_iload_n E_X8_doesStep (by rfl) dX8_doesStep_152 ?_
        refine qm_iald E_X8_doesStep 88 (by decide) rfl o2 dX8_doesStep_153 ?_
        refine qm_callV (As := [.int (S.2 87 a1.toNatClampNeg), .int (S9.2 88 a1.toNatClampNeg)]) (rest := [.int (12 * (S.2 87 a1.toNatClampNeg)), .int 4, .ref (M.2.2.2 3), .int ((4 * a1) + x8), .ref (M.2.2.2 93)]) E_X8_doesStep rfl M_X8_placeOf rfl q1970 q1972 qs34 rfl rfl rfl (Nat.le_of_ble_eq_true rfl) dX8_doesStep_154 (qm_C.mono ?_ (C_X8_placeOf (d := d + 4) (S.2 87 a1.toNatClampNeg) (S9.2 88 a1.toNatClampNeg) S9 _ h))
        rintro _ _ ⟨r12, rfl, rfl, h⟩
        refine qm_iadd E_X8_doesStep dX8_doesStep_157 ?_
        refine qm_imul E_X8_doesStep dX8_doesStep_158 ?_
        refine qm_iload_n E_X8_doesStep (by rfl) dX8_doesStep_159 ?_
        refine qm_iadd E_X8_doesStep dX8_doesStep_160 ?_
        obtain ⟨o14, h⟩ := h
        refine qm_iald E_X8_doesStep 3 (by decide) rfl o14 dX8_doesStep_161 ?_
        obtain ⟨o15, h⟩ := h
        refine qm_iast E_X8_doesStep 93 (by decide) rfl o15 dX8_doesStep_162 ?_
        refine qm_iinc E_X8_doesStep 1 rfl (by decide) (by decide) dX8_doesStep_163 ?_
        refine qm_goto E_X8_doesStep 123 dX8_doesStep_166 (by decide) ?_
        exact h
    · have h := h.2 c6
      refine qm_aload_n E_X8_doesStep (by rfl) dX8_doesStep_76 ?_
      refine qm_get E_X8_doesStep rfl 93 (by decide) q1750 (v := .ref (M.2.2.2 93)) rfl dX8_doesStep_77 ?_
      refine qm_iconst E_X8_doesStep 4 (by decide) dX8_doesStep_80 ?_
      refine qm_iload_n E_X8_doesStep (by rfl) dX8_doesStep_81 ?_
      refine qm_imul E_X8_doesStep dX8_doesStep_82 ?_
      refine qm_aload_n E_X8_doesStep (by rfl) dX8_doesStep_83 ?_
      refine qm_iload_n E_X8_doesStep (by rfl) dX8_doesStep_84 ?_
      refine qm_aload_n E_X8_doesStep (by rfl) dX8_doesStep_85 ?_
      refine qm_get E_X8_doesStep rfl 88 (by decide) q1745 (v := .ref (M.2.2.2 88)) rfl dX8_doesStep_86 ?_
      refine qm_iload_n E_X8_doesStep (by rfl) dX8_doesStep_89 ?_
      refine qm_iald E_X8_doesStep 88 (by decide) rfl o2 dX8_doesStep_90 ?_
      refine qm_aload_n E_X8_doesStep (by rfl) dX8_doesStep_91 ?_
      refine qm_get E_X8_doesStep rfl 89 (by decide) q1746 (v := .ref (M.2.2.2 89)) rfl dX8_doesStep_92 ?_
      refine qm_iload_n E_X8_doesStep (by rfl) dX8_doesStep_95 ?_
      obtain ⟨o16, h⟩ := h
      refine qm_iald E_X8_doesStep 89 (by decide) rfl o16 dX8_doesStep_96 ?_
      refine qm_aload_n E_X8_doesStep (by rfl) dX8_doesStep_97 ?_
      refine qm_iload_n E_X8_doesStep (by rfl) dX8_doesStep_98 ?_
      refine qm_aload_n E_X8_doesStep (by rfl) dX8_doesStep_99 ?_
      refine qm_get E_X8_doesStep rfl 89 (by decide) q1746 (v := .ref (M.2.2.2 89)) rfl dX8_doesStep_100 ?_
      refine qm_iload_n E_X8_doesStep (by rfl) dX8_doesStep_103 ?_
      refine qm_iald E_X8_doesStep 89 (by decide) rfl o16 dX8_doesStep_104 ?_
      refine qm_aload_n E_X8_doesStep (by rfl) dX8_doesStep_105 ?_
      refine qm_get E_X8_doesStep rfl 90 (by decide) q1747 (v := .ref (M.2.2.2 90)) rfl dX8_doesStep_106 ?_
      refine qm_iload_n E_X8_doesStep (by rfl) dX8_doesStep_109 ?_
      obtain ⟨o17, h⟩ := h
      refine qm_iald E_X8_doesStep 90 (by decide) rfl o17 dX8_doesStep_110 ?_
      refine qm_callV (As := [.int (S.2 87 a1.toNatClampNeg), .int (S.2 89 a1.toNatClampNeg), .int (S.2 90 a1.toNatClampNeg)]) (rest := [.int (S.2 89 a1.toNatClampNeg), .int (S.2 88 a1.toNatClampNeg), .int (S.2 87 a1.toNatClampNeg), .ref M.2.2.1, .int (4 * a1), .ref (M.2.2.2 93)]) E_X8_doesStep rfl M_X8_kept rfl q1978 q1980 qs36 rfl rfl rfl (Nat.le_of_ble_eq_true rfl) dX8_doesStep_111 (qm_C.mono ?_ (C_X8_kept (d := d + 2) (S.2 87 a1.toNatClampNeg) (S.2 89 a1.toNatClampNeg) (S.2 90 a1.toNatClampNeg) ((S.1, qm_uA S.2 92 (upd (S.2 92) a1.toNatClampNeg (S.2 88 a1.toNatClampNeg)))) _ h))
      rintro _ S20 ⟨r18, rfl, h⟩
      refine qm_callV (As := [.int (S.2 87 a1.toNatClampNeg), .int (S.2 88 a1.toNatClampNeg), .int (S.2 89 a1.toNatClampNeg), .int r18]) (rest := [.int (4 * a1), .ref (M.2.2.2 93)]) E_X8_doesStep rfl M_X8_puts rfl q2006 q2008 qs42 rfl rfl rfl (Nat.le_of_ble_eq_true rfl) dX8_doesStep_114 (qm_C.mono ?_ (C_X8_puts (d := d + 1) (S.2 87 a1.toNatClampNeg) (S.2 88 a1.toNatClampNeg) (S.2 89 a1.toNatClampNeg) r18 S20 _ h))
      rintro _ S23 ⟨r21, rfl, h⟩
      obtain ⟨o24, h⟩ := h
      refine qm_iast E_X8_doesStep 93 (by decide) rfl o24 dX8_doesStep_117 ?_
      refine qm_goto E_X8_doesStep 180 dX8_doesStep_118 (by decide) ?_
      exact qm_vret E_X8_doesStep rfl dX8_doesStep_180 ⟨rfl, h⟩
  · have h := h.2 c5
    refine qm_aload_n E_X8_doesStep (by rfl) dX8_doesStep_28 ?_
    refine qm_get E_X8_doesStep rfl 92 (by decide) q1749 (v := .ref (M.2.2.2 92)) rfl dX8_doesStep_29 ?_
    refine qm_iload_n E_X8_doesStep (by rfl) dX8_doesStep_32 ?_
    refine qm_aload_n E_X8_doesStep (by rfl) dX8_doesStep_33 ?_
    refine qm_iload_n E_X8_doesStep (by rfl) dX8_doesStep_34 ?_
    refine qm_aload_n E_X8_doesStep (by rfl) dX8_doesStep_35 ?_
    refine qm_get E_X8_doesStep rfl 88 (by decide) q1745 (v := .ref (M.2.2.2 88)) rfl dX8_doesStep_36 ?_
    refine qm_iload_n E_X8_doesStep (by rfl) dX8_doesStep_39 ?_
    refine qm_iald E_X8_doesStep 88 (by decide) rfl o2 dX8_doesStep_40 ?_
    refine qm_aload_n E_X8_doesStep (by rfl) dX8_doesStep_41 ?_
    refine qm_get E_X8_doesStep rfl 89 (by decide) q1746 (v := .ref (M.2.2.2 89)) rfl dX8_doesStep_42 ?_
    refine qm_iload_n E_X8_doesStep (by rfl) dX8_doesStep_45 ?_
    obtain ⟨o25, h⟩ := h
    refine qm_iald E_X8_doesStep 89 (by decide) rfl o25 dX8_doesStep_46 ?_
    refine qm_aload_n E_X8_doesStep (by rfl) dX8_doesStep_47 ?_
    refine qm_get E_X8_doesStep rfl 90 (by decide) q1747 (v := .ref (M.2.2.2 90)) rfl dX8_doesStep_48 ?_
    refine qm_iload_n E_X8_doesStep (by rfl) dX8_doesStep_51 ?_
    obtain ⟨o26, h⟩ := h
    refine qm_iald E_X8_doesStep 90 (by decide) rfl o26 dX8_doesStep_52 ?_
    refine qm_aload_n E_X8_doesStep (by rfl) dX8_doesStep_53 ?_
    refine qm_get E_X8_doesStep rfl 91 (by decide) q1748 (v := .ref (M.2.2.2 91)) rfl dX8_doesStep_54 ?_
    refine qm_iload_n E_X8_doesStep (by rfl) dX8_doesStep_57 ?_
    obtain ⟨o27, h⟩ := h
    refine qm_iald E_X8_doesStep 91 (by decide) rfl o27 dX8_doesStep_58 ?_
    refine qm_callV (As := [.int (S.2 87 a1.toNatClampNeg), .int (S.2 88 a1.toNatClampNeg), .int (S.2 89 a1.toNatClampNeg), .int (S.2 90 a1.toNatClampNeg), .int (S.2 91 a1.toNatClampNeg)]) (rest := [.int a1, .ref (M.2.2.2 92)]) E_X8_doesStep rfl M_X8_adds rfl q1974 q1976 qs35 rfl rfl rfl (Nat.le_of_ble_eq_true rfl) dX8_doesStep_59 (qm_C.mono ?_ (C_X8_adds (d := d) (S.2 87 a1.toNatClampNeg) (S.2 88 a1.toNatClampNeg) (S.2 89 a1.toNatClampNeg) (S.2 90 a1.toNatClampNeg) (S.2 91 a1.toNatClampNeg) ((S.1, qm_uA S.2 92 (upd (S.2 92) a1.toNatClampNeg (S.2 88 a1.toNatClampNeg)))) _ h))
    rintro _ S30 ⟨r28, rfl, h⟩
    refine qm_iast E_X8_doesStep 92 (by decide) rfl o3 dX8_doesStep_62 ?_
    refine qm_goto E_X8_doesStep 180 dX8_doesStep_63 (by decide) ?_
    exact qm_vret E_X8_doesStep rfl dX8_doesStep_180 ⟨rfl, h⟩
def I_X8_runs : qh_I := (yX8_runs, cX8_runs, 7, (Option.some Jvm.ClassFile.FieldType.int), [])
theorem E_X8_runs : I_X8_runs.2.1 = cX8_runs := rfl
theorem M_X8_runs : qh_M I_X8_runs 1 := ⟨by decide, by decide, by decide +kernel, q95, q2308, by decide⟩
def T_X8_runs (a1 : Int32) (S : qm_S) (K : Int32 → qm_S → Prop) : Prop := vp_in a1 (qm_len 87) ∧ ∀ X2 : Int32 → Int32 → Int32 → qm_S → Prop, (∀ (x3 x4 x5 : Int32) (S6 : qm_S), ((3 ≤ x5 → (x3 = 0 → K 0 S6) ∧ (¬ x3 = 0 → K 1 S6)) ∧ (¬ 3 ≤ x5 → T_X8_tries (f_X8_storeOf (S.2 87 a1.toNatClampNeg)) 0 S6 (fun r9 S11 => ∀ J29 : Int32 → Int32 → qm_S → Prop, (∀ (x30 x31 : Int32) (S32 : qm_S), ((¬ r9 = 2 → X2 x30 x31 (x5 + 1) S32) ∧ (r9 = 2 → (x30 = 0 → K 0 S32) ∧ (¬ x30 = 0 → K 2 S32))) → J29 x30 x31 S32) → (¬ x3 = 0 → J29 x3 x4 S11) ∧ (x3 = 0 → (¬ x4 = 0 → J29 x3 x4 S11) ∧ (x4 = 0 → (r9 = 2 → T_X8_canStep a1 S11 (fun r15 => (r15 = 0 → J29 r15 ((if r15 = 0 then (1 : Int32) else (0 : Int32))) S11) ∧ (¬ r15 = 0 → T_X8_doesStep a1 S11 (fun S20 => J29 r15 ((if r15 = 0 then (1 : Int32) else (0 : Int32))) S20)))) ∧ (¬ r9 = 2 → vp_in (f_X8_storeOf (S.2 87 a1.toNatClampNeg)) (qm_len 15) ∧ ((S11.2 15 (f_X8_storeOf (S.2 87 a1.toNatClampNeg)).toNatClampNeg) = 0 → J29 x3 x4 S11) ∧ (¬ (S11.2 15 (f_X8_storeOf (S.2 87 a1.toNatClampNeg)).toNatClampNeg) = 0 → T_X8_canStep a1 S11 (fun r23 => (r23 = 0 → J29 r23 ((if r23 = 0 then (1 : Int32) else (0 : Int32))) S11) ∧ (¬ r23 = 0 → T_X8_doesStep a1 S11 (fun S28 => J29 r23 ((if r23 = 0 then (1 : Int32) else (0 : Int32))) S28)))))))))) → X2 x3 x4 x5 S6) → X2 0 0 0 S
set_option maxHeartbeats 4000000 in
theorem C_X8_runs {M : qm_G} {d : Nat} (a1 : Int32) (S : qm_S) (K : Int32 → qm_S → Prop) (h : T_X8_runs a1 S K) : qm_C M (d + 6) I_X8_runs [.ref M.2.2.1, .int a1] S (fun v S' => ∃ r, v = some (.int r) ∧ K r S') := by
  refine qm_C.of (by decide) rfl (ls := [some (.ref M.2.2.1), some (.int a1), none, none, none, none, none]) rfl (Nat.le_of_ble_eq_true rfl) (qm_ct rfl) ?_
  unfold T_X8_runs at h
  refine qm_aload_n E_X8_runs (by rfl) dX8_runs_0 ?_
  refine qm_get E_X8_runs rfl 87 (by decide) q1744 (v := .ref (M.2.2.2 87)) rfl dX8_runs_1 ?_
  refine qm_iload_n E_X8_runs (by rfl) dX8_runs_4 ?_
  obtain ⟨o1, h⟩ := h
  refine qm_iald E_X8_runs 87 (by decide) rfl o1 dX8_runs_5 ?_
  refine qm_callS (As := [.int (S.2 87 a1.toNatClampNeg)]) (rest := []) E_X8_runs rfl M_X8_storeOf rfl q1964 q1965 rfl rfl (Nat.le_of_ble_eq_true rfl) dX8_runs_6 (C_X8_storeOf (d := d + 5) (S.2 87 a1.toNatClampNeg) S _ ?_)
  refine qm_istore_n E_X8_runs (by decide) dX8_runs_9 ?_
  refine qm_iconst E_X8_runs 0 (by decide) dX8_runs_10 ?_
  refine qm_istore_n E_X8_runs (by decide) dX8_runs_11 ?_
  refine qm_iconst E_X8_runs 0 (by decide) dX8_runs_12 ?_
  refine qm_istore E_X8_runs (by decide) dX8_runs_13 ?_
  refine qm_iconst E_X8_runs 0 (by decide) dX8_runs_15 ?_
  refine qm_istore E_X8_runs (by decide) dX8_runs_16 ?_
  refine h (fun x3 x4 x5 S6 => qm_wp M (d + 6) I_X8_runs 18 [some (.ref M.2.2.1), some (.int a1), some (.int (f_X8_storeOf (S.2 87 a1.toNatClampNeg))), some (.int x3), some (.int x4), some (.int x5), none] [] S6 (fun v S' => ∃ r, v = some (.int r) ∧ K r S')) ?_
  intro x3 x4 x5 S6 h
  refine qm_iload E_X8_runs (by rfl) dX8_runs_18 ?_
  refine qm_iconst E_X8_runs 3 (by decide) dX8_runs_20 ?_
  refine qm_icmp_ge E_X8_runs 104 dX8_runs_21 (by decide) (fun (c7 : 3 ≤ x5) => ?_) (fun (c7 : ¬ 3 ≤ x5) => ?_)
  · have h := h.1 c7
    refine qm_iload_n E_X8_runs (by rfl) dX8_runs_104 ?_
    refine qm_if_eq E_X8_runs 112 dX8_runs_105 (by decide) (fun (c8 : x3 = 0) => ?_) (fun (c8 : ¬ x3 = 0) => ?_)
    · have h := h.1 c8
      refine qm_iconst E_X8_runs 0 (by decide) dX8_runs_112 ?_
      exact qm_iret E_X8_runs rfl dX8_runs_113 ⟨_, rfl, h⟩
    · have h := h.2 c8
      refine qm_iconst E_X8_runs 1 (by decide) dX8_runs_108 ?_
      refine qm_goto E_X8_runs 113 dX8_runs_109 (by decide) ?_
      exact qm_iret E_X8_runs rfl dX8_runs_113 ⟨_, rfl, h⟩
  · have h := h.2 c7
    refine qm_aload_n E_X8_runs (by rfl) dX8_runs_24 ?_
    refine qm_iload_n E_X8_runs (by rfl) dX8_runs_25 ?_
    refine qm_iconst E_X8_runs 0 (by decide) dX8_runs_26 ?_
    refine qm_callV (As := [.int (f_X8_storeOf (S.2 87 a1.toNatClampNeg)), .int 0]) (rest := []) E_X8_runs rfl M_X8_tries rfl q2182 q2184 qs64 rfl rfl rfl (Nat.le_of_ble_eq_true rfl) dX8_runs_27 (qm_C.mono ?_ (C_X8_tries (d := d + 2) (f_X8_storeOf (S.2 87 a1.toNatClampNeg)) 0 S6 _ h))
    rintro _ S11 ⟨r9, rfl, h⟩
    refine qm_istore E_X8_runs (by decide) dX8_runs_30 ?_
    refine qm_iload_n E_X8_runs (by rfl) dX8_runs_32 ?_
    have h := h (fun x30 x31 S32 => qm_wp M (d + 6) I_X8_runs 82 [some (.ref M.2.2.1), some (.int a1), some (.int (f_X8_storeOf (S.2 87 a1.toNatClampNeg))), some (.int x30), some (.int x31), some (.int x5), some (.int r9)] [] S32 (fun v S' => ∃ r, v = some (.int r) ∧ K r S')) (by
      intro x30 x31 S32 h
      refine qm_iload E_X8_runs (by rfl) dX8_runs_82 ?_
      refine qm_iconst E_X8_runs 2 (by decide) dX8_runs_84 ?_
      refine qm_icmp_ne E_X8_runs 98 dX8_runs_85 (by decide) (fun (c33 : ¬ r9 = 2) => ?_) (fun (c33 : r9 = 2) => ?_)
      · have h := h.1 c33
        refine qm_iinc E_X8_runs 1 rfl (by decide) (by decide) dX8_runs_98 ?_
        refine qm_goto E_X8_runs 18 dX8_runs_101 (by decide) ?_
        refine qm_drop 6 ?_
        exact h
      · have h := h.2 c33
        refine qm_iload_n E_X8_runs (by rfl) dX8_runs_88 ?_
        refine qm_if_eq E_X8_runs 96 dX8_runs_89 (by decide) (fun (c34 : x30 = 0) => ?_) (fun (c34 : ¬ x30 = 0) => ?_)
        · have h := h.1 c34
          refine qm_iconst E_X8_runs 0 (by decide) dX8_runs_96 ?_
          exact qm_iret E_X8_runs rfl dX8_runs_97 ⟨_, rfl, h⟩
        · have h := h.2 c34
          refine qm_iconst E_X8_runs 2 (by decide) dX8_runs_92 ?_
          refine qm_goto E_X8_runs 97 dX8_runs_93 (by decide) ?_
          exact qm_iret E_X8_runs rfl dX8_runs_97 ⟨_, rfl, h⟩)
    refine qm_if_ne E_X8_runs 82 dX8_runs_33 (by decide) (fun (c12 : ¬ x3 = 0) => ?_) (fun (c12 : x3 = 0) => ?_)
    · have h := h.1 c12
      exact h
    · have h := h.2 c12
      refine qm_iload E_X8_runs (by rfl) dX8_runs_36 ?_
      refine qm_if_ne E_X8_runs 82 dX8_runs_38 (by decide) (fun (c13 : ¬ x4 = 0) => ?_) (fun (c13 : x4 = 0) => ?_)
      · have h := h.1 c13
        exact h
      · have h := h.2 c13
        refine qm_iload E_X8_runs (by rfl) dX8_runs_41 ?_
        refine qm_iconst E_X8_runs 2 (by decide) dX8_runs_43 ?_
        refine qm_icmp_eq E_X8_runs 56 dX8_runs_44 (by decide) (fun (c14 : r9 = 2) => ?_) (fun (c14 : ¬ r9 = 2) => ?_)
        · have h := h.1 c14
          refine qm_aload_n E_X8_runs (by rfl) dX8_runs_56 ?_
          refine qm_iload_n E_X8_runs (by rfl) dX8_runs_57 ?_
          refine qm_callV (As := [.int a1]) (rest := []) E_X8_runs rfl M_X8_canStep rfl q2309 q2311 qs81 rfl rfl rfl (Nat.le_of_ble_eq_true rfl) dX8_runs_58 (qm_C.mono ?_ (C_X8_canStep (d := d + 1) a1 S11 _ h))
          rintro _ _ ⟨r15, rfl, z16, rfl, h⟩
          refine qm_istore_n E_X8_runs (by decide) dX8_runs_61 ?_
          refine qm_iload_n E_X8_runs (by rfl) dX8_runs_62 ?_
          have Jv18 : ∀ v18 : Int32, v18 = (if r15 = 0 then (1 : Int32) else (0 : Int32)) → qm_wp M (d + 6) I_X8_runs 71 [some (.ref M.2.2.1), some (.int a1), some (.int (f_X8_storeOf (S.2 87 a1.toNatClampNeg))), some (.int r15), some (.int x4), some (.int x5), some (.int r9)] [.int v18] S11 (fun v S' => ∃ r, v = some (.int r) ∧ K r S') := by
            rintro _ rfl
            refine qm_istore E_X8_runs (by decide) dX8_runs_71 ?_
            refine qm_iload_n E_X8_runs (by rfl) dX8_runs_73 ?_
            refine qm_if_eq E_X8_runs 82 dX8_runs_74 (by decide) (fun (c19 : r15 = 0) => ?_) (fun (c19 : ¬ r15 = 0) => ?_)
            · have h := h.1 c19
              exact h
            · have h := h.2 c19
              refine qm_aload_n E_X8_runs (by rfl) dX8_runs_77 ?_
              refine qm_iload_n E_X8_runs (by rfl) dX8_runs_78 ?_
              refine qm_callV (As := [.int a1]) (rest := []) E_X8_runs rfl M_X8_doesStep rfl q2313 q2315 qs82 rfl rfl rfl (Nat.le_of_ble_eq_true rfl) dX8_runs_79 (qm_C.mono ?_ (C_X8_doesStep (d := d) a1 S11 _ h))
              rintro _ S20 ⟨rfl, h⟩
              exact h
          refine qm_if_ne E_X8_runs 70 dX8_runs_63 (by decide) (fun (c17 : ¬ r15 = 0) => ?_) (fun (c17 : r15 = 0) => ?_)
          · refine qm_iconst E_X8_runs 0 (by decide) dX8_runs_70 ?_
            exact Jv18 ((0 : Int32)) (by rw [if_neg c17])
          · refine qm_iconst E_X8_runs 1 (by decide) dX8_runs_66 ?_
            refine qm_goto E_X8_runs 71 dX8_runs_67 (by decide) ?_
            exact Jv18 ((1 : Int32)) (by rw [if_pos c17])
        · have h := h.2 c14
          refine qm_aload_n E_X8_runs (by rfl) dX8_runs_47 ?_
          refine qm_get E_X8_runs rfl 15 (by decide) q1672 (v := .ref (M.2.2.2 15)) rfl dX8_runs_48 ?_
          refine qm_iload_n E_X8_runs (by rfl) dX8_runs_51 ?_
          obtain ⟨o21, h⟩ := h
          refine qm_zald E_X8_runs 15 (by decide) rfl o21 dX8_runs_52 ?_
          refine qm_if_eq E_X8_runs 82 dX8_runs_53 (by decide) (fun (c22 : (S11.2 15 (f_X8_storeOf (S.2 87 a1.toNatClampNeg)).toNatClampNeg) = 0) => ?_) (fun (c22 : ¬ (S11.2 15 (f_X8_storeOf (S.2 87 a1.toNatClampNeg)).toNatClampNeg) = 0) => ?_)
          · have h := h.1 c22
            exact h
          · have h := h.2 c22
            refine qm_aload_n E_X8_runs (by rfl) dX8_runs_56 ?_
            refine qm_iload_n E_X8_runs (by rfl) dX8_runs_57 ?_
            refine qm_callV (As := [.int a1]) (rest := []) E_X8_runs rfl M_X8_canStep rfl q2309 q2311 qs81 rfl rfl rfl (Nat.le_of_ble_eq_true rfl) dX8_runs_58 (qm_C.mono ?_ (C_X8_canStep (d := d + 1) a1 S11 _ h))
            rintro _ _ ⟨r23, rfl, z24, rfl, h⟩
            refine qm_istore_n E_X8_runs (by decide) dX8_runs_61 ?_
            refine qm_iload_n E_X8_runs (by rfl) dX8_runs_62 ?_
            have Jv26 : ∀ v26 : Int32, v26 = (if r23 = 0 then (1 : Int32) else (0 : Int32)) → qm_wp M (d + 6) I_X8_runs 71 [some (.ref M.2.2.1), some (.int a1), some (.int (f_X8_storeOf (S.2 87 a1.toNatClampNeg))), some (.int r23), some (.int x4), some (.int x5), some (.int r9)] [.int v26] S11 (fun v S' => ∃ r, v = some (.int r) ∧ K r S') := by
              rintro _ rfl
              refine qm_istore E_X8_runs (by decide) dX8_runs_71 ?_
              refine qm_iload_n E_X8_runs (by rfl) dX8_runs_73 ?_
              refine qm_if_eq E_X8_runs 82 dX8_runs_74 (by decide) (fun (c27 : r23 = 0) => ?_) (fun (c27 : ¬ r23 = 0) => ?_)
              · have h := h.1 c27
                exact h
              · have h := h.2 c27
                refine qm_aload_n E_X8_runs (by rfl) dX8_runs_77 ?_
                refine qm_iload_n E_X8_runs (by rfl) dX8_runs_78 ?_
                refine qm_callV (As := [.int a1]) (rest := []) E_X8_runs rfl M_X8_doesStep rfl q2313 q2315 qs82 rfl rfl rfl (Nat.le_of_ble_eq_true rfl) dX8_runs_79 (qm_C.mono ?_ (C_X8_doesStep (d := d) a1 S11 _ h))
                rintro _ S28 ⟨rfl, h⟩
                exact h
            refine qm_if_ne E_X8_runs 70 dX8_runs_63 (by decide) (fun (c25 : ¬ r23 = 0) => ?_) (fun (c25 : r23 = 0) => ?_)
            · refine qm_iconst E_X8_runs 0 (by decide) dX8_runs_70 ?_
              exact Jv26 ((0 : Int32)) (by rw [if_neg c25])
            · refine qm_iconst E_X8_runs 1 (by decide) dX8_runs_66 ?_
              refine qm_goto E_X8_runs 71 dX8_runs_67 (by decide) ?_
              exact Jv26 ((1 : Int32)) (by rw [if_pos c25])
def I_X8_takesBack : qh_I := (yX8_takesBack, cX8_takesBack, 3, (Option.none : Option Jvm.ClassFile.FieldType), [])
theorem E_X8_takesBack : I_X8_takesBack.2.1 = cX8_takesBack := rfl
theorem M_X8_takesBack : qh_M I_X8_takesBack 1 := ⟨by decide, by decide, by decide +kernel, q95, q2320, by decide⟩
def T_X8_takesBack (a1 : Int32) (S : qm_S) (K : qm_S → Prop) : Prop := vp_in a1 (qm_len 87) ∧ vp_in a1 (qm_len 86) ∧ (¬ (S.2 86 a1.toNatClampNeg) = 0 → (¬ (S.2 86 a1.toNatClampNeg) = 1 → vp_in a1 (qm_len 92) ∧ vp_in (4 * a1) (qm_len 93) ∧ vp_in ((4 * a1) + 1) (qm_len 93) ∧ vp_in ((4 * a1) + 2) (qm_len 93) ∧ vp_in ((4 * a1) + 3) (qm_len 93) ∧ T_X8_inserts (S.2 87 a1.toNatClampNeg) (S.2 92 a1.toNatClampNeg) (S.2 93 (4 * a1).toNatClampNeg) (S.2 93 ((4 * a1) + 1).toNatClampNeg) (S.2 93 ((4 * a1) + 2).toNatClampNeg) (S.2 93 ((4 * a1) + 3).toNatClampNeg) S (fun S10 => K S10)) ∧ ((S.2 86 a1.toNatClampNeg) = 1 → vp_in a1 (qm_len 92) ∧ vp_in a1 (qm_len 89) ∧ vp_in (4 * a1) (qm_len 93) ∧ T_X8_puts (S.2 87 a1.toNatClampNeg) (S.2 92 a1.toNatClampNeg) (S.2 89 a1.toNatClampNeg) (S.2 93 (4 * a1).toNatClampNeg) S (fun r14 S16 => K S16))) ∧ ((S.2 86 a1.toNatClampNeg) = 0 → vp_in a1 (qm_len 92) ∧ T_X8_takesOut (S.2 87 a1.toNatClampNeg) (S.2 92 a1.toNatClampNeg) S (fun S18 => K S18))
set_option maxHeartbeats 4000000 in
theorem C_X8_takesBack {M : qm_G} {d : Nat} (a1 : Int32) (S : qm_S) (K : qm_S → Prop) (h : T_X8_takesBack a1 S K) : qm_C M (d + 4) I_X8_takesBack [.ref M.2.2.1, .int a1] S (fun v S' => v = none ∧ K S') := by
  refine qm_C.of (by decide) rfl (ls := [some (.ref M.2.2.1), some (.int a1), none]) rfl (Nat.le_of_ble_eq_true rfl) (qm_ct rfl) ?_
  unfold T_X8_takesBack at h
  refine qm_aload_n E_X8_takesBack (by rfl) dX8_takesBack_0 ?_
  refine qm_get E_X8_takesBack rfl 87 (by decide) q1744 (v := .ref (M.2.2.2 87)) rfl dX8_takesBack_1 ?_
  refine qm_iload_n E_X8_takesBack (by rfl) dX8_takesBack_4 ?_
  obtain ⟨o1, h⟩ := h
  refine qm_iald E_X8_takesBack 87 (by decide) rfl o1 dX8_takesBack_5 ?_
  refine qm_istore_n E_X8_takesBack (by decide) dX8_takesBack_6 ?_
  refine qm_aload_n E_X8_takesBack (by rfl) dX8_takesBack_7 ?_
  refine qm_get E_X8_takesBack rfl 86 (by decide) q1743 (v := .ref (M.2.2.2 86)) rfl dX8_takesBack_8 ?_
  refine qm_iload_n E_X8_takesBack (by rfl) dX8_takesBack_11 ?_
  obtain ⟨o2, h⟩ := h
  refine qm_iald E_X8_takesBack 86 (by decide) rfl o2 dX8_takesBack_12 ?_
  refine qm_if_ne E_X8_takesBack 30 dX8_takesBack_13 (by decide) (fun (c3 : ¬ (S.2 86 a1.toNatClampNeg) = 0) => ?_) (fun (c3 : (S.2 86 a1.toNatClampNeg) = 0) => ?_)
  · have h := h.1 c3
    refine qm_aload_n E_X8_takesBack (by rfl) dX8_takesBack_30 ?_
    refine qm_get E_X8_takesBack rfl 86 (by decide) q1743 (v := .ref (M.2.2.2 86)) rfl dX8_takesBack_31 ?_
    refine qm_iload_n E_X8_takesBack (by rfl) dX8_takesBack_34 ?_
    refine qm_iald E_X8_takesBack 86 (by decide) rfl o2 dX8_takesBack_35 ?_
    refine qm_iconst E_X8_takesBack 1 (by decide) dX8_takesBack_36 ?_
    refine qm_icmp_ne E_X8_takesBack 69 dX8_takesBack_37 (by decide) (fun (c4 : ¬ (S.2 86 a1.toNatClampNeg) = 1) => ?_) (fun (c4 : (S.2 86 a1.toNatClampNeg) = 1) => ?_)
    · have h := h.1 c4
      refine qm_aload_n E_X8_takesBack (by rfl) dX8_takesBack_69 ?_
      refine qm_iload_n E_X8_takesBack (by rfl) dX8_takesBack_70 ?_
      refine qm_aload_n E_X8_takesBack (by rfl) dX8_takesBack_71 ?_
      refine qm_get E_X8_takesBack rfl 92 (by decide) q1749 (v := .ref (M.2.2.2 92)) rfl dX8_takesBack_72 ?_
      refine qm_iload_n E_X8_takesBack (by rfl) dX8_takesBack_75 ?_
      obtain ⟨o5, h⟩ := h
      refine qm_iald E_X8_takesBack 92 (by decide) rfl o5 dX8_takesBack_76 ?_
      refine qm_aload_n E_X8_takesBack (by rfl) dX8_takesBack_77 ?_
      refine qm_get E_X8_takesBack rfl 93 (by decide) q1750 (v := .ref (M.2.2.2 93)) rfl dX8_takesBack_78 ?_
      refine qm_iconst E_X8_takesBack 4 (by decide) dX8_takesBack_81 ?_
      refine qm_iload_n E_X8_takesBack (by rfl) dX8_takesBack_82 ?_
      refine qm_imul E_X8_takesBack dX8_takesBack_83 ?_
      obtain ⟨o6, h⟩ := h
      refine qm_iald E_X8_takesBack 93 (by decide) rfl o6 dX8_takesBack_84 ?_
      refine qm_aload_n E_X8_takesBack (by rfl) dX8_takesBack_85 ?_
      refine qm_get E_X8_takesBack rfl 93 (by decide) q1750 (v := .ref (M.2.2.2 93)) rfl dX8_takesBack_86 ?_
      refine qm_iconst E_X8_takesBack 4 (by decide) dX8_takesBack_89 ?_
      refine qm_iload_n E_X8_takesBack (by rfl) dX8_takesBack_90 ?_
      refine qm_imul E_X8_takesBack dX8_takesBack_91 ?_
      refine qm_iconst E_X8_takesBack 1 (by decide) dX8_takesBack_92 ?_
      refine qm_iadd E_X8_takesBack dX8_takesBack_93 ?_
      obtain ⟨o7, h⟩ := h
      refine qm_iald E_X8_takesBack 93 (by decide) rfl o7 dX8_takesBack_94 ?_
      refine qm_aload_n E_X8_takesBack (by rfl) dX8_takesBack_95 ?_
      refine qm_get E_X8_takesBack rfl 93 (by decide) q1750 (v := .ref (M.2.2.2 93)) rfl dX8_takesBack_96 ?_
      refine qm_iconst E_X8_takesBack 4 (by decide) dX8_takesBack_99 ?_
      refine qm_iload_n E_X8_takesBack (by rfl) dX8_takesBack_100 ?_
      refine qm_imul E_X8_takesBack dX8_takesBack_101 ?_
      refine qm_iconst E_X8_takesBack 2 (by decide) dX8_takesBack_102 ?_
      refine qm_iadd E_X8_takesBack dX8_takesBack_103 ?_
      obtain ⟨o8, h⟩ := h
      refine qm_iald E_X8_takesBack 93 (by decide) rfl o8 dX8_takesBack_104 ?_
      refine qm_aload_n E_X8_takesBack (by rfl) dX8_takesBack_105 ?_
      refine qm_get E_X8_takesBack rfl 93 (by decide) q1750 (v := .ref (M.2.2.2 93)) rfl dX8_takesBack_106 ?_
      refine qm_iconst E_X8_takesBack 4 (by decide) dX8_takesBack_109 ?_
      refine qm_iload_n E_X8_takesBack (by rfl) dX8_takesBack_110 ?_
      refine qm_imul E_X8_takesBack dX8_takesBack_111 ?_
      refine qm_iconst E_X8_takesBack 3 (by decide) dX8_takesBack_112 ?_
      refine qm_iadd E_X8_takesBack dX8_takesBack_113 ?_
      obtain ⟨o9, h⟩ := h
      refine qm_iald E_X8_takesBack 93 (by decide) rfl o9 dX8_takesBack_114 ?_
      refine qm_callV (As := [.int (S.2 87 a1.toNatClampNeg), .int (S.2 92 a1.toNatClampNeg), .int (S.2 93 (4 * a1).toNatClampNeg), .int (S.2 93 ((4 * a1) + 1).toNatClampNeg), .int (S.2 93 ((4 * a1) + 2).toNatClampNeg), .int (S.2 93 ((4 * a1) + 3).toNatClampNeg)]) (rest := []) E_X8_takesBack rfl M_X8_inserts rfl q1982 q1984 qs37 rfl rfl rfl (Nat.le_of_ble_eq_true rfl) dX8_takesBack_115 (qm_C.mono ?_ (C_X8_inserts (d := d) (S.2 87 a1.toNatClampNeg) (S.2 92 a1.toNatClampNeg) (S.2 93 (4 * a1).toNatClampNeg) (S.2 93 ((4 * a1) + 1).toNatClampNeg) (S.2 93 ((4 * a1) + 2).toNatClampNeg) (S.2 93 ((4 * a1) + 3).toNatClampNeg) S _ h))
      rintro _ S10 ⟨rfl, h⟩
      exact qm_vret E_X8_takesBack rfl dX8_takesBack_118 ⟨rfl, h⟩
    · have h := h.2 c4
      refine qm_aload_n E_X8_takesBack (by rfl) dX8_takesBack_40 ?_
      refine qm_iload_n E_X8_takesBack (by rfl) dX8_takesBack_41 ?_
      refine qm_aload_n E_X8_takesBack (by rfl) dX8_takesBack_42 ?_
      refine qm_get E_X8_takesBack rfl 92 (by decide) q1749 (v := .ref (M.2.2.2 92)) rfl dX8_takesBack_43 ?_
      refine qm_iload_n E_X8_takesBack (by rfl) dX8_takesBack_46 ?_
      obtain ⟨o11, h⟩ := h
      refine qm_iald E_X8_takesBack 92 (by decide) rfl o11 dX8_takesBack_47 ?_
      refine qm_aload_n E_X8_takesBack (by rfl) dX8_takesBack_48 ?_
      refine qm_get E_X8_takesBack rfl 89 (by decide) q1746 (v := .ref (M.2.2.2 89)) rfl dX8_takesBack_49 ?_
      refine qm_iload_n E_X8_takesBack (by rfl) dX8_takesBack_52 ?_
      obtain ⟨o12, h⟩ := h
      refine qm_iald E_X8_takesBack 89 (by decide) rfl o12 dX8_takesBack_53 ?_
      refine qm_aload_n E_X8_takesBack (by rfl) dX8_takesBack_54 ?_
      refine qm_get E_X8_takesBack rfl 93 (by decide) q1750 (v := .ref (M.2.2.2 93)) rfl dX8_takesBack_55 ?_
      refine qm_iconst E_X8_takesBack 4 (by decide) dX8_takesBack_58 ?_
      refine qm_iload_n E_X8_takesBack (by rfl) dX8_takesBack_59 ?_
      refine qm_imul E_X8_takesBack dX8_takesBack_60 ?_
      obtain ⟨o13, h⟩ := h
      refine qm_iald E_X8_takesBack 93 (by decide) rfl o13 dX8_takesBack_61 ?_
      refine qm_callV (As := [.int (S.2 87 a1.toNatClampNeg), .int (S.2 92 a1.toNatClampNeg), .int (S.2 89 a1.toNatClampNeg), .int (S.2 93 (4 * a1).toNatClampNeg)]) (rest := []) E_X8_takesBack rfl M_X8_puts rfl q2006 q2008 qs42 rfl rfl rfl (Nat.le_of_ble_eq_true rfl) dX8_takesBack_62 (qm_C.mono ?_ (C_X8_puts (d := d) (S.2 87 a1.toNatClampNeg) (S.2 92 a1.toNatClampNeg) (S.2 89 a1.toNatClampNeg) (S.2 93 (4 * a1).toNatClampNeg) S _ h))
      rintro _ S16 ⟨r14, rfl, h⟩
      refine qm_pop E_X8_takesBack rfl dX8_takesBack_65 ?_
      refine qm_goto E_X8_takesBack 118 dX8_takesBack_66 (by decide) ?_
      exact qm_vret E_X8_takesBack rfl dX8_takesBack_118 ⟨rfl, h⟩
  · have h := h.2 c3
    refine qm_aload_n E_X8_takesBack (by rfl) dX8_takesBack_16 ?_
    refine qm_iload_n E_X8_takesBack (by rfl) dX8_takesBack_17 ?_
    refine qm_aload_n E_X8_takesBack (by rfl) dX8_takesBack_18 ?_
    refine qm_get E_X8_takesBack rfl 92 (by decide) q1749 (v := .ref (M.2.2.2 92)) rfl dX8_takesBack_19 ?_
    refine qm_iload_n E_X8_takesBack (by rfl) dX8_takesBack_22 ?_
    obtain ⟨o17, h⟩ := h
    refine qm_iald E_X8_takesBack 92 (by decide) rfl o17 dX8_takesBack_23 ?_
    refine qm_callV (As := [.int (S.2 87 a1.toNatClampNeg), .int (S.2 92 a1.toNatClampNeg)]) (rest := []) E_X8_takesBack rfl M_X8_takesOut rfl q2014 q2016 qs43 rfl rfl rfl (Nat.le_of_ble_eq_true rfl) dX8_takesBack_24 (qm_C.mono ?_ (C_X8_takesOut (d := d) (S.2 87 a1.toNatClampNeg) (S.2 92 a1.toNatClampNeg) S _ h))
    rintro _ S18 ⟨rfl, h⟩
    refine qm_goto E_X8_takesBack 118 dX8_takesBack_27 (by decide) ?_
    exact qm_vret E_X8_takesBack rfl dX8_takesBack_118 ⟨rfl, h⟩
def I_X8_run : qh_I := (yX8_run, cX8_run, 5, (Option.some Jvm.ClassFile.FieldType.int), [])
theorem E_X8_run : I_X8_run.2.1 = cX8_run := rfl
theorem M_X8_run : qh_M I_X8_run 0 := ⟨by decide, by decide, by decide +kernel, q95, q2304, by decide⟩
def T_X8_run (S : qm_S) (K : Int32 → qm_S → Prop) : Prop := (((if (S.1 85) = 0 then (1 : Int32) else (0 : Int32))) ≤ 0 → ∀ X4 : Int32 → qm_S → Prop, (∀ (x5 : Int32) (S6 : qm_S), (((S.1 85) ≤ x5 → K ((-1)) S6) ∧ (¬ (S.1 85) ≤ x5 → T_X8_runs x5 S6 (fun r8 S10 => (2 ≤ r8 → X4 (x5 + 1) S10) ∧ (¬ 2 ≤ r8 → ∀ X14 : Int32 → qm_S → Prop, (∀ (x15 : Int32) (S16 : qm_S), ((x15 < 0 → K x5 S16) ∧ (¬ x15 < 0 → T_X8_takesBack x15 S16 (fun S18 => X14 (x15 + (-1)) S18))) → X14 x15 S16) → X14 ((if r8 = 1 then x5 else x5 - 1)) S10)))) → X4 x5 S6) → X4 0 ((upd (upd S.1 0 ((if (S.1 85) = 0 then (1 : Int32) else (0 : Int32)))) 85 0, S.2))) ∧ (¬ ((if (S.1 85) = 0 then (1 : Int32) else (0 : Int32))) ≤ 0 → K 0 ((upd S.1 0 ((if (S.1 85) = 0 then (1 : Int32) else (0 : Int32))), S.2)))
set_option maxHeartbeats 4000000 in
theorem C_X8_run {M : qm_G} {d : Nat} (S : qm_S) (K : Int32 → qm_S → Prop) (h : T_X8_run  S K) : qm_C M (d + 7) I_X8_run [.ref M.2.2.1] S (fun v S' => ∃ r, v = some (.int r) ∧ K r S') := by
  refine qm_C.of (by decide) rfl (ls := [some (.ref M.2.2.1), none, none, none, none]) rfl (Nat.le_of_ble_eq_true rfl) (qm_ct rfl) ?_
  unfold T_X8_run at h
  refine qm_aload_n E_X8_run (by rfl) dX8_run_0 ?_
  refine qm_aload_n E_X8_run (by rfl) dX8_run_1 ?_
  refine qm_get E_X8_run rfl 85 (by decide) q1742 (v := .int (S.1 85)) rfl dX8_run_2 ?_
  have Jv2 : ∀ v2 : Int32, v2 = (if (S.1 85) = 0 then (1 : Int32) else (0 : Int32)) → qm_wp M (d + 7) I_X8_run 13 [some (.ref M.2.2.1), none, none, none, none] [.int v2, .ref M.2.2.1] S (fun v S' => ∃ r, v = some (.int r) ∧ K r S') := by
    rintro _ rfl
    refine qm_put E_X8_run rfl 0 (by decide) q1657 rfl rfl rfl (qm_set0) dX8_run_13 ?_
    refine qm_aload_n E_X8_run (by rfl) dX8_run_16 ?_
    refine qm_get E_X8_run rfl 0 (by decide) q1657 (v := .int ((if (S.1 85) = 0 then (1 : Int32) else (0 : Int32)))) rfl dX8_run_17 ?_
    refine qm_if_le E_X8_run 25 dX8_run_20 (by decide) (fun (c3 : ((if (S.1 85) = 0 then (1 : Int32) else (0 : Int32))) ≤ 0) => ?_) (fun (c3 : ¬ ((if (S.1 85) = 0 then (1 : Int32) else (0 : Int32))) ≤ 0) => ?_)
    · have h := h.1 c3
      refine qm_aload_n E_X8_run (by rfl) dX8_run_25 ?_
      refine qm_get E_X8_run rfl 85 (by decide) q1742 (v := .int (S.1 85)) rfl dX8_run_26 ?_
      refine qm_istore_n E_X8_run (by decide) dX8_run_29 ?_
      refine qm_aload_n E_X8_run (by rfl) dX8_run_30 ?_
      refine qm_iconst E_X8_run 0 (by decide) dX8_run_31 ?_
      refine qm_put E_X8_run rfl 85 (by decide) q1742 rfl rfl rfl (qm_set85) dX8_run_32 ?_
      refine qm_iconst E_X8_run 0 (by decide) dX8_run_35 ?_
      refine qm_istore_n E_X8_run (by decide) dX8_run_36 ?_
      refine h (fun x5 S6 => qm_wp M (d + 7) I_X8_run 37 [some (.ref M.2.2.1), some (.int (S.1 85)), some (.int x5), none, none] [] S6 (fun v S' => ∃ r, v = some (.int r) ∧ K r S')) ?_
      intro x5 S6 h
      refine qm_iload_n E_X8_run (by rfl) dX8_run_37 ?_
      refine qm_iload_n E_X8_run (by rfl) dX8_run_38 ?_
      refine qm_icmp_ge E_X8_run 92 dX8_run_39 (by decide) (fun (c7 : (S.1 85) ≤ x5) => ?_) (fun (c7 : ¬ (S.1 85) ≤ x5) => ?_)
      · have h := h.1 c7
        refine qm_iconst E_X8_run (-1) (by decide) dX8_run_92 ?_
        exact qm_iret E_X8_run rfl dX8_run_93 ⟨_, rfl, h⟩
      · have h := h.2 c7
        refine qm_aload_n E_X8_run (by rfl) dX8_run_42 ?_
        refine qm_iload_n E_X8_run (by rfl) dX8_run_43 ?_
        refine qm_callV (As := [.int x5]) (rest := []) E_X8_run rfl M_X8_runs rfl q2305 q2307 qs80 rfl rfl rfl (Nat.le_of_ble_eq_true rfl) dX8_run_44 (qm_C.mono ?_ (C_X8_runs (d := d) x5 S6 _ h))
        rintro _ S10 ⟨r8, rfl, h⟩
        refine qm_istore_n E_X8_run (by decide) dX8_run_47 ?_
        refine qm_iload_n E_X8_run (by rfl) dX8_run_48 ?_
        refine qm_iconst E_X8_run 2 (by decide) dX8_run_49 ?_
        refine qm_icmp_ge E_X8_run 86 dX8_run_50 (by decide) (fun (c11 : 2 ≤ r8) => ?_) (fun (c11 : ¬ 2 ≤ r8) => ?_)
        · have h := h.1 c11
          refine qm_iinc E_X8_run 1 rfl (by decide) (by decide) dX8_run_86 ?_
          refine qm_goto E_X8_run 37 dX8_run_89 (by decide) ?_
          refine qm_drop 3 ?_
          exact h
        · have h := h.2 c11
          refine qm_iload_n E_X8_run (by rfl) dX8_run_53 ?_
          refine qm_iconst E_X8_run 1 (by decide) dX8_run_54 ?_
          have Jv13 : ∀ v13 : Int32, v13 = (if r8 = 1 then x5 else x5 - 1) → qm_wp M (d + 7) I_X8_run 65 [some (.ref M.2.2.1), some (.int (S.1 85)), some (.int x5), some (.int r8), none] [.int v13] S10 (fun v S' => ∃ r, v = some (.int r) ∧ K r S') := by
            rintro _ rfl
            refine qm_istore E_X8_run (by decide) dX8_run_65 ?_
            refine h (fun x15 S16 => qm_wp M (d + 7) I_X8_run 67 [some (.ref M.2.2.1), some (.int (S.1 85)), some (.int x5), some (.int r8), some (.int x15)] [] S16 (fun v S' => ∃ r, v = some (.int r) ∧ K r S')) ?_
            intro x15 S16 h
            refine qm_iload E_X8_run (by rfl) dX8_run_67 ?_
            refine qm_if_lt E_X8_run 84 dX8_run_69 (by decide) (fun (c17 : x15 < 0) => ?_) (fun (c17 : ¬ x15 < 0) => ?_)
            · have h := h.1 c17
              refine qm_iload_n E_X8_run (by rfl) dX8_run_84 ?_
              exact qm_iret E_X8_run rfl dX8_run_85 ⟨_, rfl, h⟩
            · have h := h.2 c17
              refine qm_aload_n E_X8_run (by rfl) dX8_run_72 ?_
              refine qm_iload E_X8_run (by rfl) dX8_run_73 ?_
              refine qm_callV (As := [.int x15]) (rest := []) E_X8_run rfl M_X8_takesBack rfl q2317 q2319 qs83 rfl rfl rfl (Nat.le_of_ble_eq_true rfl) dX8_run_75 (qm_C.mono ?_ (C_X8_takesBack (d := d + 2) x15 S16 _ h))
              rintro _ S18 ⟨rfl, h⟩
              refine qm_iinc E_X8_run (-1) rfl (by decide) (by decide) dX8_run_78 ?_
              refine qm_goto E_X8_run 67 dX8_run_81 (by decide) ?_
              exact h
          refine qm_icmp_ne E_X8_run 62 dX8_run_55 (by decide) (fun (c12 : ¬ r8 = 1) => ?_) (fun (c12 : r8 = 1) => ?_)
          · refine qm_iload_n E_X8_run (by rfl) dX8_run_62 ?_
            refine qm_iconst E_X8_run 1 (by decide) dX8_run_63 ?_
            refine qm_isub E_X8_run dX8_run_64 ?_
            exact Jv13 (x5 - 1) (by rw [if_neg c12])
          · refine qm_iload_n E_X8_run (by rfl) dX8_run_58 ?_
            refine qm_goto E_X8_run 65 dX8_run_59 (by decide) ?_
            exact Jv13 (x5) (by rw [if_pos c12])
    · have h := h.2 c3
      refine qm_iconst E_X8_run 0 (by decide) dX8_run_23 ?_
      exact qm_iret E_X8_run rfl dX8_run_24 ⟨_, rfl, h⟩
  refine qm_if_ne E_X8_run 12 dX8_run_5 (by decide) (fun (c1 : ¬ (S.1 85) = 0) => ?_) (fun (c1 : (S.1 85) = 0) => ?_)
  · refine qm_iconst E_X8_run 0 (by decide) dX8_run_12 ?_
    exact Jv2 ((0 : Int32)) (by rw [if_neg c1])
  · refine qm_iconst E_X8_run 1 (by decide) dX8_run_8 ?_
    refine qm_goto E_X8_run 13 dX8_run_9 (by decide) ?_
    exact Jv2 ((1 : Int32)) (by rw [if_pos c1])
