/-! QueryHarborLaw -/
set_option maxRecDepth 100000
def RX0 : String := "QueryHarborLaw"
abbrev cX0_add : ByteArray := method_3_code
def yX0_add : MethodName := ⟨RX0, "add", "(LQueryHarbor;IIIII[J)I"⟩
def dkwX0_add_1 : List UInt8 := [58, 7, 5, 172, 58, 7, 6, 172, 3, 172]
abbrev dktX0_add_1 : List UInt8 := dkwX0_add_1 ++ []
def dkwX0_add_0 : List UInt8 := [25, 6, 3, 42, 27, 28, 29, 21, 4, 21, 5, 182, 0, 7, 133, 80, 167, 0, 15, 58, 7, 4, 172]
abbrev dktX0_add_0 : List UInt8 := dkwX0_add_0 ++ dktX0_add_1
theorem dksX0_add_0 : cX0_add.data.toList.drop 0 = dktX0_add_0 := by decide +kernel
theorem dksX0_add_1 : cX0_add.data.toList.drop 23 = dktX0_add_1 := dk_seg dksX0_add_0 23 rfl rfl
theorem dX0_add_0 : decode cX0_add 0 = .ok (.aload 6, 2) := dk_25 6 (dk_at dksX0_add_0 0 rfl rfl)
theorem dX0_add_2 : decode cX0_add 2 = .ok (.iconst 0, 1) := dk_3 (dk_at dksX0_add_0 2 rfl rfl)
theorem dX0_add_3 : decode cX0_add 3 = .ok (.aload_n 0, 1) := dk_42 (dk_at dksX0_add_0 3 rfl rfl)
theorem dX0_add_4 : decode cX0_add 4 = .ok (.iload_n 1, 1) := dk_27 (dk_at dksX0_add_0 4 rfl rfl)
theorem dX0_add_5 : decode cX0_add 5 = .ok (.iload_n 2, 1) := dk_28 (dk_at dksX0_add_0 5 rfl rfl)
theorem dX0_add_6 : decode cX0_add 6 = .ok (.iload_n 3, 1) := dk_29 (dk_at dksX0_add_0 6 rfl rfl)
theorem dX0_add_7 : decode cX0_add 7 = .ok (.iload 4, 2) := dk_21 4 (dk_at dksX0_add_0 7 rfl rfl)
theorem dX0_add_9 : decode cX0_add 9 = .ok (.iload 5, 2) := dk_21 5 (dk_at dksX0_add_0 9 rfl rfl)
theorem dX0_add_11 : decode cX0_add 11 = .ok (.invokevirtual 7, 3) := dk_182 0 7 (dk_at dksX0_add_0 11 rfl rfl)
theorem dX0_add_14 : decode cX0_add 14 = .ok (.i2l, 1) := dk_133 (dk_at dksX0_add_0 14 rfl rfl)
theorem dX0_add_15 : decode cX0_add 15 = .ok (.lastore, 1) := dk_80 (dk_at dksX0_add_0 15 rfl rfl)
theorem dX0_add_16 : decode cX0_add 16 = .ok (.goto 15, 3) := dk_167 0 15 (dk_at dksX0_add_0 16 rfl rfl)
theorem dX0_add_19 : decode cX0_add 19 = .ok (.astore 7, 2) := dk_58 7 (dk_at dksX0_add_0 19 rfl rfl)
theorem dX0_add_21 : decode cX0_add 21 = .ok (.iconst 1, 1) := dk_4 (dk_at dksX0_add_0 21 rfl rfl)
theorem dX0_add_22 : decode cX0_add 22 = .ok (.ireturn, 1) := dk_172 (dk_at dksX0_add_0 22 rfl rfl)
theorem dX0_add_23 : decode cX0_add 23 = .ok (.astore 7, 2) := dk_58 7 (dk_at dksX0_add_1 0 rfl rfl)
theorem dX0_add_25 : decode cX0_add 25 = .ok (.iconst 2, 1) := dk_5 (dk_at dksX0_add_1 2 rfl rfl)
theorem dX0_add_26 : decode cX0_add 26 = .ok (.ireturn, 1) := dk_172 (dk_at dksX0_add_1 3 rfl rfl)
theorem dX0_add_27 : decode cX0_add 27 = .ok (.astore 7, 2) := dk_58 7 (dk_at dksX0_add_1 4 rfl rfl)
theorem dX0_add_29 : decode cX0_add 29 = .ok (.iconst 3, 1) := dk_6 (dk_at dksX0_add_1 6 rfl rfl)
theorem dX0_add_30 : decode cX0_add 30 = .ok (.ireturn, 1) := dk_172 (dk_at dksX0_add_1 7 rfl rfl)
theorem dX0_add_31 : decode cX0_add 31 = .ok (.iconst 0, 1) := dk_3 (dk_at dksX0_add_1 8 rfl rfl)
theorem dX0_add_32 : decode cX0_add 32 = .ok (.ireturn, 1) := dk_172 (dk_at dksX0_add_1 9 rfl rfl)
abbrev cX0_change : ByteArray := method_4_code
def yX0_change : MethodName := ⟨RX0, "change", "(LQueryHarbor;IIII[J)I"⟩
def dkwX0_change_1 : List UInt8 := [172, 3, 172]
abbrev dktX0_change_1 : List UInt8 := dkwX0_change_1 ++ []
def dkwX0_change_0 : List UInt8 := [25, 5, 3, 42, 27, 28, 29, 21, 4, 182, 0, 19, 133, 80, 167, 0, 11, 58, 6, 4, 172, 58, 6, 5]
abbrev dktX0_change_0 : List UInt8 := dkwX0_change_0 ++ dktX0_change_1
theorem dksX0_change_0 : cX0_change.data.toList.drop 0 = dktX0_change_0 := by decide +kernel
theorem dksX0_change_1 : cX0_change.data.toList.drop 24 = dktX0_change_1 := dk_seg dksX0_change_0 24 rfl rfl
theorem dX0_change_0 : decode cX0_change 0 = .ok (.aload 5, 2) := dk_25 5 (dk_at dksX0_change_0 0 rfl rfl)
theorem dX0_change_2 : decode cX0_change 2 = .ok (.iconst 0, 1) := dk_3 (dk_at dksX0_change_0 2 rfl rfl)
theorem dX0_change_3 : decode cX0_change 3 = .ok (.aload_n 0, 1) := dk_42 (dk_at dksX0_change_0 3 rfl rfl)
theorem dX0_change_4 : decode cX0_change 4 = .ok (.iload_n 1, 1) := dk_27 (dk_at dksX0_change_0 4 rfl rfl)
theorem dX0_change_5 : decode cX0_change 5 = .ok (.iload_n 2, 1) := dk_28 (dk_at dksX0_change_0 5 rfl rfl)
theorem dX0_change_6 : decode cX0_change 6 = .ok (.iload_n 3, 1) := dk_29 (dk_at dksX0_change_0 6 rfl rfl)
theorem dX0_change_7 : decode cX0_change 7 = .ok (.iload 4, 2) := dk_21 4 (dk_at dksX0_change_0 7 rfl rfl)
theorem dX0_change_9 : decode cX0_change 9 = .ok (.invokevirtual 19, 3) := dk_182 0 19 (dk_at dksX0_change_0 9 rfl rfl)
theorem dX0_change_12 : decode cX0_change 12 = .ok (.i2l, 1) := dk_133 (dk_at dksX0_change_0 12 rfl rfl)
theorem dX0_change_13 : decode cX0_change 13 = .ok (.lastore, 1) := dk_80 (dk_at dksX0_change_0 13 rfl rfl)
theorem dX0_change_14 : decode cX0_change 14 = .ok (.goto 11, 3) := dk_167 0 11 (dk_at dksX0_change_0 14 rfl rfl)
theorem dX0_change_17 : decode cX0_change 17 = .ok (.astore 6, 2) := dk_58 6 (dk_at dksX0_change_0 17 rfl rfl)
theorem dX0_change_19 : decode cX0_change 19 = .ok (.iconst 1, 1) := dk_4 (dk_at dksX0_change_0 19 rfl rfl)
theorem dX0_change_20 : decode cX0_change 20 = .ok (.ireturn, 1) := dk_172 (dk_at dksX0_change_0 20 rfl rfl)
theorem dX0_change_21 : decode cX0_change 21 = .ok (.astore 6, 2) := dk_58 6 (dk_at dksX0_change_0 21 rfl rfl)
theorem dX0_change_23 : decode cX0_change 23 = .ok (.iconst 2, 1) := dk_5 (dk_at dksX0_change_0 23 rfl rfl)
theorem dX0_change_24 : decode cX0_change 24 = .ok (.ireturn, 1) := dk_172 (dk_at dksX0_change_1 0 rfl rfl)
theorem dX0_change_25 : decode cX0_change 25 = .ok (.iconst 0, 1) := dk_3 (dk_at dksX0_change_1 1 rfl rfl)
theorem dX0_change_26 : decode cX0_change 26 = .ok (.ireturn, 1) := dk_172 (dk_at dksX0_change_1 2 rfl rfl)
abbrev cX0_remove : ByteArray := method_5_code
def yX0_remove : MethodName := ⟨RX0, "remove", "(LQueryHarbor;II[J)I"⟩
def dkwX0_remove_0 : List UInt8 := [45, 3, 42, 27, 28, 182, 0, 23, 133, 80, 167, 0, 7, 58, 4, 4, 172, 3, 172]
abbrev dktX0_remove_0 : List UInt8 := dkwX0_remove_0 ++ []
theorem dksX0_remove_0 : cX0_remove.data.toList.drop 0 = dktX0_remove_0 := by decide +kernel
theorem dX0_remove_0 : decode cX0_remove 0 = .ok (.aload_n 3, 1) := dk_45 (dk_at dksX0_remove_0 0 rfl rfl)
theorem dX0_remove_1 : decode cX0_remove 1 = .ok (.iconst 0, 1) := dk_3 (dk_at dksX0_remove_0 1 rfl rfl)
theorem dX0_remove_2 : decode cX0_remove 2 = .ok (.aload_n 0, 1) := dk_42 (dk_at dksX0_remove_0 2 rfl rfl)
theorem dX0_remove_3 : decode cX0_remove 3 = .ok (.iload_n 1, 1) := dk_27 (dk_at dksX0_remove_0 3 rfl rfl)
theorem dX0_remove_4 : decode cX0_remove 4 = .ok (.iload_n 2, 1) := dk_28 (dk_at dksX0_remove_0 4 rfl rfl)
theorem dX0_remove_5 : decode cX0_remove 5 = .ok (.invokevirtual 23, 3) := dk_182 0 23 (dk_at dksX0_remove_0 5 rfl rfl)
theorem dX0_remove_8 : decode cX0_remove 8 = .ok (.i2l, 1) := dk_133 (dk_at dksX0_remove_0 8 rfl rfl)
theorem dX0_remove_9 : decode cX0_remove 9 = .ok (.lastore, 1) := dk_80 (dk_at dksX0_remove_0 9 rfl rfl)
theorem dX0_remove_10 : decode cX0_remove 10 = .ok (.goto 7, 3) := dk_167 0 7 (dk_at dksX0_remove_0 10 rfl rfl)
theorem dX0_remove_13 : decode cX0_remove 13 = .ok (.astore 4, 2) := dk_58 4 (dk_at dksX0_remove_0 13 rfl rfl)
theorem dX0_remove_15 : decode cX0_remove 15 = .ok (.iconst 1, 1) := dk_4 (dk_at dksX0_remove_0 15 rfl rfl)
theorem dX0_remove_16 : decode cX0_remove 16 = .ok (.ireturn, 1) := dk_172 (dk_at dksX0_remove_0 16 rfl rfl)
theorem dX0_remove_17 : decode cX0_remove 17 = .ok (.iconst 0, 1) := dk_3 (dk_at dksX0_remove_0 17 rfl rfl)
theorem dX0_remove_18 : decode cX0_remove 18 = .ok (.ireturn, 1) := dk_172 (dk_at dksX0_remove_0 18 rfl rfl)
abbrev cX0_count : ByteArray := method_6_code
def yX0_count : MethodName := ⟨RX0, "count", "(LQueryHarbor;I[J)I"⟩
def dkwX0_count_0 : List UInt8 := [44, 3, 42, 27, 182, 0, 27, 133, 80, 167, 0, 6, 78, 4, 172, 3, 172]
abbrev dktX0_count_0 : List UInt8 := dkwX0_count_0 ++ []
theorem dksX0_count_0 : cX0_count.data.toList.drop 0 = dktX0_count_0 := by decide +kernel
theorem dX0_count_0 : decode cX0_count 0 = .ok (.aload_n 2, 1) := dk_44 (dk_at dksX0_count_0 0 rfl rfl)
theorem dX0_count_1 : decode cX0_count 1 = .ok (.iconst 0, 1) := dk_3 (dk_at dksX0_count_0 1 rfl rfl)
theorem dX0_count_2 : decode cX0_count 2 = .ok (.aload_n 0, 1) := dk_42 (dk_at dksX0_count_0 2 rfl rfl)
theorem dX0_count_3 : decode cX0_count 3 = .ok (.iload_n 1, 1) := dk_27 (dk_at dksX0_count_0 3 rfl rfl)
theorem dX0_count_4 : decode cX0_count 4 = .ok (.invokevirtual 27, 3) := dk_182 0 27 (dk_at dksX0_count_0 4 rfl rfl)
theorem dX0_count_7 : decode cX0_count 7 = .ok (.i2l, 1) := dk_133 (dk_at dksX0_count_0 7 rfl rfl)
theorem dX0_count_8 : decode cX0_count 8 = .ok (.lastore, 1) := dk_80 (dk_at dksX0_count_0 8 rfl rfl)
theorem dX0_count_9 : decode cX0_count 9 = .ok (.goto 6, 3) := dk_167 0 6 (dk_at dksX0_count_0 9 rfl rfl)
theorem dX0_count_12 : decode cX0_count 12 = .ok (.astore_n 3, 1) := dk_78 (dk_at dksX0_count_0 12 rfl rfl)
theorem dX0_count_13 : decode cX0_count 13 = .ok (.iconst 1, 1) := dk_4 (dk_at dksX0_count_0 13 rfl rfl)
theorem dX0_count_14 : decode cX0_count 14 = .ok (.ireturn, 1) := dk_172 (dk_at dksX0_count_0 14 rfl rfl)
theorem dX0_count_15 : decode cX0_count 15 = .ok (.iconst 0, 1) := dk_3 (dk_at dksX0_count_0 15 rfl rfl)
theorem dX0_count_16 : decode cX0_count 16 = .ok (.ireturn, 1) := dk_172 (dk_at dksX0_count_0 16 rfl rfl)
abbrev cX0_cell : ByteArray := method_7_code
def yX0_cell : MethodName := ⟨RX0, "cell", "(LQueryHarbor;III[J)I"⟩
def dkwX0_cell_0 : List UInt8 := [25, 4, 3, 42, 27, 28, 29, 182, 0, 31, 133, 80, 167, 0, 7, 58, 5, 4, 172, 3, 172]
abbrev dktX0_cell_0 : List UInt8 := dkwX0_cell_0 ++ []
theorem dksX0_cell_0 : cX0_cell.data.toList.drop 0 = dktX0_cell_0 := by decide +kernel
theorem dX0_cell_0 : decode cX0_cell 0 = .ok (.aload 4, 2) := dk_25 4 (dk_at dksX0_cell_0 0 rfl rfl)
theorem dX0_cell_2 : decode cX0_cell 2 = .ok (.iconst 0, 1) := dk_3 (dk_at dksX0_cell_0 2 rfl rfl)
theorem dX0_cell_3 : decode cX0_cell 3 = .ok (.aload_n 0, 1) := dk_42 (dk_at dksX0_cell_0 3 rfl rfl)
theorem dX0_cell_4 : decode cX0_cell 4 = .ok (.iload_n 1, 1) := dk_27 (dk_at dksX0_cell_0 4 rfl rfl)
theorem dX0_cell_5 : decode cX0_cell 5 = .ok (.iload_n 2, 1) := dk_28 (dk_at dksX0_cell_0 5 rfl rfl)
theorem dX0_cell_6 : decode cX0_cell 6 = .ok (.iload_n 3, 1) := dk_29 (dk_at dksX0_cell_0 6 rfl rfl)
theorem dX0_cell_7 : decode cX0_cell 7 = .ok (.invokevirtual 31, 3) := dk_182 0 31 (dk_at dksX0_cell_0 7 rfl rfl)
theorem dX0_cell_10 : decode cX0_cell 10 = .ok (.i2l, 1) := dk_133 (dk_at dksX0_cell_0 10 rfl rfl)
theorem dX0_cell_11 : decode cX0_cell 11 = .ok (.lastore, 1) := dk_80 (dk_at dksX0_cell_0 11 rfl rfl)
theorem dX0_cell_12 : decode cX0_cell 12 = .ok (.goto 7, 3) := dk_167 0 7 (dk_at dksX0_cell_0 12 rfl rfl)
theorem dX0_cell_15 : decode cX0_cell 15 = .ok (.astore 5, 2) := dk_58 5 (dk_at dksX0_cell_0 15 rfl rfl)
theorem dX0_cell_17 : decode cX0_cell 17 = .ok (.iconst 1, 1) := dk_4 (dk_at dksX0_cell_0 17 rfl rfl)
theorem dX0_cell_18 : decode cX0_cell 18 = .ok (.ireturn, 1) := dk_172 (dk_at dksX0_cell_0 18 rfl rfl)
theorem dX0_cell_19 : decode cX0_cell 19 = .ok (.iconst 0, 1) := dk_3 (dk_at dksX0_cell_0 19 rfl rfl)
theorem dX0_cell_20 : decode cX0_cell 20 = .ok (.ireturn, 1) := dk_172 (dk_at dksX0_cell_0 20 rfl rfl)
abbrev cX0_setPace : ByteArray := method_8_code
def yX0_setPace : MethodName := ⟨RX0, "setPace", "(LQueryHarbor;III[J)I"⟩
def dkwX0_setPace_1 : List UInt8 := [172]
abbrev dktX0_setPace_1 : List UInt8 := dkwX0_setPace_1 ++ []
def dkwX0_setPace_0 : List UInt8 := [25, 4, 3, 42, 27, 28, 29, 182, 0, 35, 133, 80, 167, 0, 11, 58, 5, 4, 172, 58, 5, 5, 172, 3]
abbrev dktX0_setPace_0 : List UInt8 := dkwX0_setPace_0 ++ dktX0_setPace_1
theorem dksX0_setPace_0 : cX0_setPace.data.toList.drop 0 = dktX0_setPace_0 := by decide +kernel
theorem dksX0_setPace_1 : cX0_setPace.data.toList.drop 24 = dktX0_setPace_1 := dk_seg dksX0_setPace_0 24 rfl rfl
theorem dX0_setPace_0 : decode cX0_setPace 0 = .ok (.aload 4, 2) := dk_25 4 (dk_at dksX0_setPace_0 0 rfl rfl)
theorem dX0_setPace_2 : decode cX0_setPace 2 = .ok (.iconst 0, 1) := dk_3 (dk_at dksX0_setPace_0 2 rfl rfl)
theorem dX0_setPace_3 : decode cX0_setPace 3 = .ok (.aload_n 0, 1) := dk_42 (dk_at dksX0_setPace_0 3 rfl rfl)
theorem dX0_setPace_4 : decode cX0_setPace 4 = .ok (.iload_n 1, 1) := dk_27 (dk_at dksX0_setPace_0 4 rfl rfl)
theorem dX0_setPace_5 : decode cX0_setPace 5 = .ok (.iload_n 2, 1) := dk_28 (dk_at dksX0_setPace_0 5 rfl rfl)
theorem dX0_setPace_6 : decode cX0_setPace 6 = .ok (.iload_n 3, 1) := dk_29 (dk_at dksX0_setPace_0 6 rfl rfl)
theorem dX0_setPace_7 : decode cX0_setPace 7 = .ok (.invokevirtual 35, 3) := dk_182 0 35 (dk_at dksX0_setPace_0 7 rfl rfl)
theorem dX0_setPace_10 : decode cX0_setPace 10 = .ok (.i2l, 1) := dk_133 (dk_at dksX0_setPace_0 10 rfl rfl)
theorem dX0_setPace_11 : decode cX0_setPace 11 = .ok (.lastore, 1) := dk_80 (dk_at dksX0_setPace_0 11 rfl rfl)
theorem dX0_setPace_12 : decode cX0_setPace 12 = .ok (.goto 11, 3) := dk_167 0 11 (dk_at dksX0_setPace_0 12 rfl rfl)
theorem dX0_setPace_15 : decode cX0_setPace 15 = .ok (.astore 5, 2) := dk_58 5 (dk_at dksX0_setPace_0 15 rfl rfl)
theorem dX0_setPace_17 : decode cX0_setPace 17 = .ok (.iconst 1, 1) := dk_4 (dk_at dksX0_setPace_0 17 rfl rfl)
theorem dX0_setPace_18 : decode cX0_setPace 18 = .ok (.ireturn, 1) := dk_172 (dk_at dksX0_setPace_0 18 rfl rfl)
theorem dX0_setPace_19 : decode cX0_setPace 19 = .ok (.astore 5, 2) := dk_58 5 (dk_at dksX0_setPace_0 19 rfl rfl)
theorem dX0_setPace_21 : decode cX0_setPace 21 = .ok (.iconst 2, 1) := dk_5 (dk_at dksX0_setPace_0 21 rfl rfl)
theorem dX0_setPace_22 : decode cX0_setPace 22 = .ok (.ireturn, 1) := dk_172 (dk_at dksX0_setPace_0 22 rfl rfl)
theorem dX0_setPace_23 : decode cX0_setPace 23 = .ok (.iconst 0, 1) := dk_3 (dk_at dksX0_setPace_0 23 rfl rfl)
theorem dX0_setPace_24 : decode cX0_setPace 24 = .ok (.ireturn, 1) := dk_172 (dk_at dksX0_setPace_1 0 rfl rfl)
abbrev cX0_setBounds : ByteArray := method_9_code
def yX0_setBounds : MethodName := ⟨RX0, "setBounds", "(LQueryHarbor;III[J)I"⟩
def dkwX0_setBounds_1 : List UInt8 := [172]
abbrev dktX0_setBounds_1 : List UInt8 := dkwX0_setBounds_1 ++ []
def dkwX0_setBounds_0 : List UInt8 := [25, 4, 3, 42, 27, 28, 29, 182, 0, 38, 133, 80, 167, 0, 11, 58, 5, 4, 172, 58, 5, 5, 172, 3]
abbrev dktX0_setBounds_0 : List UInt8 := dkwX0_setBounds_0 ++ dktX0_setBounds_1
theorem dksX0_setBounds_0 : cX0_setBounds.data.toList.drop 0 = dktX0_setBounds_0 := by decide +kernel
theorem dksX0_setBounds_1 : cX0_setBounds.data.toList.drop 24 = dktX0_setBounds_1 := dk_seg dksX0_setBounds_0 24 rfl rfl
theorem dX0_setBounds_0 : decode cX0_setBounds 0 = .ok (.aload 4, 2) := dk_25 4 (dk_at dksX0_setBounds_0 0 rfl rfl)
theorem dX0_setBounds_2 : decode cX0_setBounds 2 = .ok (.iconst 0, 1) := dk_3 (dk_at dksX0_setBounds_0 2 rfl rfl)
theorem dX0_setBounds_3 : decode cX0_setBounds 3 = .ok (.aload_n 0, 1) := dk_42 (dk_at dksX0_setBounds_0 3 rfl rfl)
theorem dX0_setBounds_4 : decode cX0_setBounds 4 = .ok (.iload_n 1, 1) := dk_27 (dk_at dksX0_setBounds_0 4 rfl rfl)
theorem dX0_setBounds_5 : decode cX0_setBounds 5 = .ok (.iload_n 2, 1) := dk_28 (dk_at dksX0_setBounds_0 5 rfl rfl)
theorem dX0_setBounds_6 : decode cX0_setBounds 6 = .ok (.iload_n 3, 1) := dk_29 (dk_at dksX0_setBounds_0 6 rfl rfl)
theorem dX0_setBounds_7 : decode cX0_setBounds 7 = .ok (.invokevirtual 38, 3) := dk_182 0 38 (dk_at dksX0_setBounds_0 7 rfl rfl)
theorem dX0_setBounds_10 : decode cX0_setBounds 10 = .ok (.i2l, 1) := dk_133 (dk_at dksX0_setBounds_0 10 rfl rfl)
theorem dX0_setBounds_11 : decode cX0_setBounds 11 = .ok (.lastore, 1) := dk_80 (dk_at dksX0_setBounds_0 11 rfl rfl)
theorem dX0_setBounds_12 : decode cX0_setBounds 12 = .ok (.goto 11, 3) := dk_167 0 11 (dk_at dksX0_setBounds_0 12 rfl rfl)
theorem dX0_setBounds_15 : decode cX0_setBounds 15 = .ok (.astore 5, 2) := dk_58 5 (dk_at dksX0_setBounds_0 15 rfl rfl)
theorem dX0_setBounds_17 : decode cX0_setBounds 17 = .ok (.iconst 1, 1) := dk_4 (dk_at dksX0_setBounds_0 17 rfl rfl)
theorem dX0_setBounds_18 : decode cX0_setBounds 18 = .ok (.ireturn, 1) := dk_172 (dk_at dksX0_setBounds_0 18 rfl rfl)
theorem dX0_setBounds_19 : decode cX0_setBounds 19 = .ok (.astore 5, 2) := dk_58 5 (dk_at dksX0_setBounds_0 19 rfl rfl)
theorem dX0_setBounds_21 : decode cX0_setBounds 21 = .ok (.iconst 2, 1) := dk_5 (dk_at dksX0_setBounds_0 21 rfl rfl)
theorem dX0_setBounds_22 : decode cX0_setBounds 22 = .ok (.ireturn, 1) := dk_172 (dk_at dksX0_setBounds_0 22 rfl rfl)
theorem dX0_setBounds_23 : decode cX0_setBounds 23 = .ok (.iconst 0, 1) := dk_3 (dk_at dksX0_setBounds_0 23 rfl rfl)
theorem dX0_setBounds_24 : decode cX0_setBounds 24 = .ok (.ireturn, 1) := dk_172 (dk_at dksX0_setBounds_1 0 rfl rfl)
abbrev cX0_setLease : ByteArray := method_10_code
def yX0_setLease : MethodName := ⟨RX0, "setLease", "(LQueryHarbor;II[J)I"⟩
def dkwX0_setLease_0 : List UInt8 := [45, 3, 42, 27, 28, 182, 0, 41, 133, 80, 167, 0, 11, 58, 4, 4, 172, 58, 4, 5, 172, 3, 172]
abbrev dktX0_setLease_0 : List UInt8 := dkwX0_setLease_0 ++ []
theorem dksX0_setLease_0 : cX0_setLease.data.toList.drop 0 = dktX0_setLease_0 := by decide +kernel
theorem dX0_setLease_0 : decode cX0_setLease 0 = .ok (.aload_n 3, 1) := dk_45 (dk_at dksX0_setLease_0 0 rfl rfl)
theorem dX0_setLease_1 : decode cX0_setLease 1 = .ok (.iconst 0, 1) := dk_3 (dk_at dksX0_setLease_0 1 rfl rfl)
theorem dX0_setLease_2 : decode cX0_setLease 2 = .ok (.aload_n 0, 1) := dk_42 (dk_at dksX0_setLease_0 2 rfl rfl)
theorem dX0_setLease_3 : decode cX0_setLease 3 = .ok (.iload_n 1, 1) := dk_27 (dk_at dksX0_setLease_0 3 rfl rfl)
theorem dX0_setLease_4 : decode cX0_setLease 4 = .ok (.iload_n 2, 1) := dk_28 (dk_at dksX0_setLease_0 4 rfl rfl)
theorem dX0_setLease_5 : decode cX0_setLease 5 = .ok (.invokevirtual 41, 3) := dk_182 0 41 (dk_at dksX0_setLease_0 5 rfl rfl)
theorem dX0_setLease_8 : decode cX0_setLease 8 = .ok (.i2l, 1) := dk_133 (dk_at dksX0_setLease_0 8 rfl rfl)
theorem dX0_setLease_9 : decode cX0_setLease 9 = .ok (.lastore, 1) := dk_80 (dk_at dksX0_setLease_0 9 rfl rfl)
theorem dX0_setLease_10 : decode cX0_setLease 10 = .ok (.goto 11, 3) := dk_167 0 11 (dk_at dksX0_setLease_0 10 rfl rfl)
theorem dX0_setLease_13 : decode cX0_setLease 13 = .ok (.astore 4, 2) := dk_58 4 (dk_at dksX0_setLease_0 13 rfl rfl)
theorem dX0_setLease_15 : decode cX0_setLease 15 = .ok (.iconst 1, 1) := dk_4 (dk_at dksX0_setLease_0 15 rfl rfl)
theorem dX0_setLease_16 : decode cX0_setLease 16 = .ok (.ireturn, 1) := dk_172 (dk_at dksX0_setLease_0 16 rfl rfl)
theorem dX0_setLease_17 : decode cX0_setLease 17 = .ok (.astore 4, 2) := dk_58 4 (dk_at dksX0_setLease_0 17 rfl rfl)
theorem dX0_setLease_19 : decode cX0_setLease 19 = .ok (.iconst 2, 1) := dk_5 (dk_at dksX0_setLease_0 19 rfl rfl)
theorem dX0_setLease_20 : decode cX0_setLease 20 = .ok (.ireturn, 1) := dk_172 (dk_at dksX0_setLease_0 20 rfl rfl)
theorem dX0_setLease_21 : decode cX0_setLease 21 = .ok (.iconst 0, 1) := dk_3 (dk_at dksX0_setLease_0 21 rfl rfl)
theorem dX0_setLease_22 : decode cX0_setLease 22 = .ok (.ireturn, 1) := dk_172 (dk_at dksX0_setLease_0 22 rfl rfl)
abbrev cX0_fail : ByteArray := method_11_code
def yX0_fail : MethodName := ⟨RX0, "fail", "(LQueryHarbor;IIZ[J)I"⟩
def dkwX0_fail_1 : List UInt8 := [172]
abbrev dktX0_fail_1 : List UInt8 := dkwX0_fail_1 ++ []
def dkwX0_fail_0 : List UInt8 := [25, 4, 3, 42, 27, 28, 29, 182, 0, 44, 133, 80, 167, 0, 11, 58, 5, 4, 172, 58, 5, 5, 172, 3]
abbrev dktX0_fail_0 : List UInt8 := dkwX0_fail_0 ++ dktX0_fail_1
theorem dksX0_fail_0 : cX0_fail.data.toList.drop 0 = dktX0_fail_0 := by decide +kernel
theorem dksX0_fail_1 : cX0_fail.data.toList.drop 24 = dktX0_fail_1 := dk_seg dksX0_fail_0 24 rfl rfl
theorem dX0_fail_0 : decode cX0_fail 0 = .ok (.aload 4, 2) := dk_25 4 (dk_at dksX0_fail_0 0 rfl rfl)
theorem dX0_fail_2 : decode cX0_fail 2 = .ok (.iconst 0, 1) := dk_3 (dk_at dksX0_fail_0 2 rfl rfl)
theorem dX0_fail_3 : decode cX0_fail 3 = .ok (.aload_n 0, 1) := dk_42 (dk_at dksX0_fail_0 3 rfl rfl)
theorem dX0_fail_4 : decode cX0_fail 4 = .ok (.iload_n 1, 1) := dk_27 (dk_at dksX0_fail_0 4 rfl rfl)
theorem dX0_fail_5 : decode cX0_fail 5 = .ok (.iload_n 2, 1) := dk_28 (dk_at dksX0_fail_0 5 rfl rfl)
theorem dX0_fail_6 : decode cX0_fail 6 = .ok (.iload_n 3, 1) := dk_29 (dk_at dksX0_fail_0 6 rfl rfl)
theorem dX0_fail_7 : decode cX0_fail 7 = .ok (.invokevirtual 44, 3) := dk_182 0 44 (dk_at dksX0_fail_0 7 rfl rfl)
theorem dX0_fail_10 : decode cX0_fail 10 = .ok (.i2l, 1) := dk_133 (dk_at dksX0_fail_0 10 rfl rfl)
theorem dX0_fail_11 : decode cX0_fail 11 = .ok (.lastore, 1) := dk_80 (dk_at dksX0_fail_0 11 rfl rfl)
theorem dX0_fail_12 : decode cX0_fail 12 = .ok (.goto 11, 3) := dk_167 0 11 (dk_at dksX0_fail_0 12 rfl rfl)
theorem dX0_fail_15 : decode cX0_fail 15 = .ok (.astore 5, 2) := dk_58 5 (dk_at dksX0_fail_0 15 rfl rfl)
theorem dX0_fail_17 : decode cX0_fail 17 = .ok (.iconst 1, 1) := dk_4 (dk_at dksX0_fail_0 17 rfl rfl)
theorem dX0_fail_18 : decode cX0_fail 18 = .ok (.ireturn, 1) := dk_172 (dk_at dksX0_fail_0 18 rfl rfl)
theorem dX0_fail_19 : decode cX0_fail 19 = .ok (.astore 5, 2) := dk_58 5 (dk_at dksX0_fail_0 19 rfl rfl)
theorem dX0_fail_21 : decode cX0_fail 21 = .ok (.iconst 2, 1) := dk_5 (dk_at dksX0_fail_0 21 rfl rfl)
theorem dX0_fail_22 : decode cX0_fail 22 = .ok (.ireturn, 1) := dk_172 (dk_at dksX0_fail_0 22 rfl rfl)
theorem dX0_fail_23 : decode cX0_fail 23 = .ok (.iconst 0, 1) := dk_3 (dk_at dksX0_fail_0 23 rfl rfl)
theorem dX0_fail_24 : decode cX0_fail 24 = .ok (.ireturn, 1) := dk_172 (dk_at dksX0_fail_1 0 rfl rfl)
abbrev cX0_forbid : ByteArray := method_12_code
def yX0_forbid : MethodName := ⟨RX0, "forbid", "(LQueryHarbor;IIZ[J)I"⟩
def dkwX0_forbid_1 : List UInt8 := [4, 172, 3, 172]
abbrev dktX0_forbid_1 : List UInt8 := dkwX0_forbid_1 ++ []
def dkwX0_forbid_0 : List UInt8 := [25, 4, 3, 42, 27, 28, 29, 182, 0, 48, 153, 0, 7, 10, 167, 0, 4, 9, 80, 167, 0, 7, 58, 5]
abbrev dktX0_forbid_0 : List UInt8 := dkwX0_forbid_0 ++ dktX0_forbid_1
theorem dksX0_forbid_0 : cX0_forbid.data.toList.drop 0 = dktX0_forbid_0 := by decide +kernel
theorem dksX0_forbid_1 : cX0_forbid.data.toList.drop 24 = dktX0_forbid_1 := dk_seg dksX0_forbid_0 24 rfl rfl
theorem dX0_forbid_0 : decode cX0_forbid 0 = .ok (.aload 4, 2) := dk_25 4 (dk_at dksX0_forbid_0 0 rfl rfl)
theorem dX0_forbid_2 : decode cX0_forbid 2 = .ok (.iconst 0, 1) := dk_3 (dk_at dksX0_forbid_0 2 rfl rfl)
theorem dX0_forbid_3 : decode cX0_forbid 3 = .ok (.aload_n 0, 1) := dk_42 (dk_at dksX0_forbid_0 3 rfl rfl)
theorem dX0_forbid_4 : decode cX0_forbid 4 = .ok (.iload_n 1, 1) := dk_27 (dk_at dksX0_forbid_0 4 rfl rfl)
theorem dX0_forbid_5 : decode cX0_forbid 5 = .ok (.iload_n 2, 1) := dk_28 (dk_at dksX0_forbid_0 5 rfl rfl)
theorem dX0_forbid_6 : decode cX0_forbid 6 = .ok (.iload_n 3, 1) := dk_29 (dk_at dksX0_forbid_0 6 rfl rfl)
theorem dX0_forbid_7 : decode cX0_forbid 7 = .ok (.invokevirtual 48, 3) := dk_182 0 48 (dk_at dksX0_forbid_0 7 rfl rfl)
theorem dX0_forbid_10 : decode cX0_forbid 10 = .ok (.ifCond .eq 7, 3) := dk_153 0 7 (dk_at dksX0_forbid_0 10 rfl rfl)
theorem dX0_forbid_13 : decode cX0_forbid 13 = .ok (.lconst 1, 1) := dk_10 (dk_at dksX0_forbid_0 13 rfl rfl)
theorem dX0_forbid_14 : decode cX0_forbid 14 = .ok (.goto 4, 3) := dk_167 0 4 (dk_at dksX0_forbid_0 14 rfl rfl)
theorem dX0_forbid_17 : decode cX0_forbid 17 = .ok (.lconst 0, 1) := dk_9 (dk_at dksX0_forbid_0 17 rfl rfl)
theorem dX0_forbid_18 : decode cX0_forbid 18 = .ok (.lastore, 1) := dk_80 (dk_at dksX0_forbid_0 18 rfl rfl)
theorem dX0_forbid_19 : decode cX0_forbid 19 = .ok (.goto 7, 3) := dk_167 0 7 (dk_at dksX0_forbid_0 19 rfl rfl)
theorem dX0_forbid_22 : decode cX0_forbid 22 = .ok (.astore 5, 2) := dk_58 5 (dk_at dksX0_forbid_0 22 rfl rfl)
theorem dX0_forbid_24 : decode cX0_forbid 24 = .ok (.iconst 1, 1) := dk_4 (dk_at dksX0_forbid_1 0 rfl rfl)
theorem dX0_forbid_25 : decode cX0_forbid 25 = .ok (.ireturn, 1) := dk_172 (dk_at dksX0_forbid_1 1 rfl rfl)
theorem dX0_forbid_26 : decode cX0_forbid 26 = .ok (.iconst 0, 1) := dk_3 (dk_at dksX0_forbid_1 2 rfl rfl)
theorem dX0_forbid_27 : decode cX0_forbid 27 = .ok (.ireturn, 1) := dk_172 (dk_at dksX0_forbid_1 3 rfl rfl)
abbrev cX0_pass : ByteArray := method_13_code
def yX0_pass : MethodName := ⟨RX0, "pass", "(LQueryHarbor;I[J)I"⟩
def dkwX0_pass_0 : List UInt8 := [44, 3, 42, 27, 182, 0, 52, 133, 80, 167, 0, 6, 78, 4, 172, 3, 172]
abbrev dktX0_pass_0 : List UInt8 := dkwX0_pass_0 ++ []
theorem dksX0_pass_0 : cX0_pass.data.toList.drop 0 = dktX0_pass_0 := by decide +kernel
theorem dX0_pass_0 : decode cX0_pass 0 = .ok (.aload_n 2, 1) := dk_44 (dk_at dksX0_pass_0 0 rfl rfl)
theorem dX0_pass_1 : decode cX0_pass 1 = .ok (.iconst 0, 1) := dk_3 (dk_at dksX0_pass_0 1 rfl rfl)
theorem dX0_pass_2 : decode cX0_pass 2 = .ok (.aload_n 0, 1) := dk_42 (dk_at dksX0_pass_0 2 rfl rfl)
theorem dX0_pass_3 : decode cX0_pass 3 = .ok (.iload_n 1, 1) := dk_27 (dk_at dksX0_pass_0 3 rfl rfl)
theorem dX0_pass_4 : decode cX0_pass 4 = .ok (.invokevirtual 52, 3) := dk_182 0 52 (dk_at dksX0_pass_0 4 rfl rfl)
theorem dX0_pass_7 : decode cX0_pass 7 = .ok (.i2l, 1) := dk_133 (dk_at dksX0_pass_0 7 rfl rfl)
theorem dX0_pass_8 : decode cX0_pass 8 = .ok (.lastore, 1) := dk_80 (dk_at dksX0_pass_0 8 rfl rfl)
theorem dX0_pass_9 : decode cX0_pass 9 = .ok (.goto 6, 3) := dk_167 0 6 (dk_at dksX0_pass_0 9 rfl rfl)
theorem dX0_pass_12 : decode cX0_pass 12 = .ok (.astore_n 3, 1) := dk_78 (dk_at dksX0_pass_0 12 rfl rfl)
theorem dX0_pass_13 : decode cX0_pass 13 = .ok (.iconst 1, 1) := dk_4 (dk_at dksX0_pass_0 13 rfl rfl)
theorem dX0_pass_14 : decode cX0_pass 14 = .ok (.ireturn, 1) := dk_172 (dk_at dksX0_pass_0 14 rfl rfl)
theorem dX0_pass_15 : decode cX0_pass 15 = .ok (.iconst 0, 1) := dk_3 (dk_at dksX0_pass_0 15 rfl rfl)
theorem dX0_pass_16 : decode cX0_pass 16 = .ok (.ireturn, 1) := dk_172 (dk_at dksX0_pass_0 16 rfl rfl)
abbrev cX0_seat : ByteArray := method_14_code
def yX0_seat : MethodName := ⟨RX0, "seat", "(LQueryHarbor;I[J)I"⟩
def dkwX0_seat_0 : List UInt8 := [44, 3, 42, 27, 182, 0, 55, 133, 80, 167, 0, 9, 78, 4, 172, 78, 5, 172, 3, 172]
abbrev dktX0_seat_0 : List UInt8 := dkwX0_seat_0 ++ []
theorem dksX0_seat_0 : cX0_seat.data.toList.drop 0 = dktX0_seat_0 := by decide +kernel
theorem dX0_seat_0 : decode cX0_seat 0 = .ok (.aload_n 2, 1) := dk_44 (dk_at dksX0_seat_0 0 rfl rfl)
theorem dX0_seat_1 : decode cX0_seat 1 = .ok (.iconst 0, 1) := dk_3 (dk_at dksX0_seat_0 1 rfl rfl)
theorem dX0_seat_2 : decode cX0_seat 2 = .ok (.aload_n 0, 1) := dk_42 (dk_at dksX0_seat_0 2 rfl rfl)
theorem dX0_seat_3 : decode cX0_seat 3 = .ok (.iload_n 1, 1) := dk_27 (dk_at dksX0_seat_0 3 rfl rfl)
theorem dX0_seat_4 : decode cX0_seat 4 = .ok (.invokevirtual 55, 3) := dk_182 0 55 (dk_at dksX0_seat_0 4 rfl rfl)
theorem dX0_seat_7 : decode cX0_seat 7 = .ok (.i2l, 1) := dk_133 (dk_at dksX0_seat_0 7 rfl rfl)
theorem dX0_seat_8 : decode cX0_seat 8 = .ok (.lastore, 1) := dk_80 (dk_at dksX0_seat_0 8 rfl rfl)
theorem dX0_seat_9 : decode cX0_seat 9 = .ok (.goto 9, 3) := dk_167 0 9 (dk_at dksX0_seat_0 9 rfl rfl)
theorem dX0_seat_12 : decode cX0_seat 12 = .ok (.astore_n 3, 1) := dk_78 (dk_at dksX0_seat_0 12 rfl rfl)
theorem dX0_seat_13 : decode cX0_seat 13 = .ok (.iconst 1, 1) := dk_4 (dk_at dksX0_seat_0 13 rfl rfl)
theorem dX0_seat_14 : decode cX0_seat 14 = .ok (.ireturn, 1) := dk_172 (dk_at dksX0_seat_0 14 rfl rfl)
theorem dX0_seat_15 : decode cX0_seat 15 = .ok (.astore_n 3, 1) := dk_78 (dk_at dksX0_seat_0 15 rfl rfl)
theorem dX0_seat_16 : decode cX0_seat 16 = .ok (.iconst 2, 1) := dk_5 (dk_at dksX0_seat_0 16 rfl rfl)
theorem dX0_seat_17 : decode cX0_seat 17 = .ok (.ireturn, 1) := dk_172 (dk_at dksX0_seat_0 17 rfl rfl)
theorem dX0_seat_18 : decode cX0_seat 18 = .ok (.iconst 0, 1) := dk_3 (dk_at dksX0_seat_0 18 rfl rfl)
theorem dX0_seat_19 : decode cX0_seat 19 = .ok (.ireturn, 1) := dk_172 (dk_at dksX0_seat_0 19 rfl rfl)
abbrev cX0_link : ByteArray := method_15_code
def yX0_link : MethodName := ⟨RX0, "link", "(LQueryHarbor;IIII[J)I"⟩
def dkwX0_link_1 : List UInt8 := [172, 58, 6, 6, 172, 3, 172]
abbrev dktX0_link_1 : List UInt8 := dkwX0_link_1 ++ []
def dkwX0_link_0 : List UInt8 := [25, 5, 3, 42, 27, 28, 29, 21, 4, 182, 0, 58, 133, 80, 167, 0, 15, 58, 6, 4, 172, 58, 6, 5]
abbrev dktX0_link_0 : List UInt8 := dkwX0_link_0 ++ dktX0_link_1
theorem dksX0_link_0 : cX0_link.data.toList.drop 0 = dktX0_link_0 := by decide +kernel
theorem dksX0_link_1 : cX0_link.data.toList.drop 24 = dktX0_link_1 := dk_seg dksX0_link_0 24 rfl rfl
theorem dX0_link_0 : decode cX0_link 0 = .ok (.aload 5, 2) := dk_25 5 (dk_at dksX0_link_0 0 rfl rfl)
theorem dX0_link_2 : decode cX0_link 2 = .ok (.iconst 0, 1) := dk_3 (dk_at dksX0_link_0 2 rfl rfl)
theorem dX0_link_3 : decode cX0_link 3 = .ok (.aload_n 0, 1) := dk_42 (dk_at dksX0_link_0 3 rfl rfl)
theorem dX0_link_4 : decode cX0_link 4 = .ok (.iload_n 1, 1) := dk_27 (dk_at dksX0_link_0 4 rfl rfl)
theorem dX0_link_5 : decode cX0_link 5 = .ok (.iload_n 2, 1) := dk_28 (dk_at dksX0_link_0 5 rfl rfl)
theorem dX0_link_6 : decode cX0_link 6 = .ok (.iload_n 3, 1) := dk_29 (dk_at dksX0_link_0 6 rfl rfl)
theorem dX0_link_7 : decode cX0_link 7 = .ok (.iload 4, 2) := dk_21 4 (dk_at dksX0_link_0 7 rfl rfl)
theorem dX0_link_9 : decode cX0_link 9 = .ok (.invokevirtual 58, 3) := dk_182 0 58 (dk_at dksX0_link_0 9 rfl rfl)
theorem dX0_link_12 : decode cX0_link 12 = .ok (.i2l, 1) := dk_133 (dk_at dksX0_link_0 12 rfl rfl)
theorem dX0_link_13 : decode cX0_link 13 = .ok (.lastore, 1) := dk_80 (dk_at dksX0_link_0 13 rfl rfl)
theorem dX0_link_14 : decode cX0_link 14 = .ok (.goto 15, 3) := dk_167 0 15 (dk_at dksX0_link_0 14 rfl rfl)
theorem dX0_link_17 : decode cX0_link 17 = .ok (.astore 6, 2) := dk_58 6 (dk_at dksX0_link_0 17 rfl rfl)
theorem dX0_link_19 : decode cX0_link 19 = .ok (.iconst 1, 1) := dk_4 (dk_at dksX0_link_0 19 rfl rfl)
theorem dX0_link_20 : decode cX0_link 20 = .ok (.ireturn, 1) := dk_172 (dk_at dksX0_link_0 20 rfl rfl)
theorem dX0_link_21 : decode cX0_link 21 = .ok (.astore 6, 2) := dk_58 6 (dk_at dksX0_link_0 21 rfl rfl)
theorem dX0_link_23 : decode cX0_link 23 = .ok (.iconst 2, 1) := dk_5 (dk_at dksX0_link_0 23 rfl rfl)
theorem dX0_link_24 : decode cX0_link 24 = .ok (.ireturn, 1) := dk_172 (dk_at dksX0_link_1 0 rfl rfl)
theorem dX0_link_25 : decode cX0_link 25 = .ok (.astore 6, 2) := dk_58 6 (dk_at dksX0_link_1 1 rfl rfl)
theorem dX0_link_27 : decode cX0_link 27 = .ok (.iconst 3, 1) := dk_6 (dk_at dksX0_link_1 3 rfl rfl)
theorem dX0_link_28 : decode cX0_link 28 = .ok (.ireturn, 1) := dk_172 (dk_at dksX0_link_1 4 rfl rfl)
theorem dX0_link_29 : decode cX0_link 29 = .ok (.iconst 0, 1) := dk_3 (dk_at dksX0_link_1 5 rfl rfl)
theorem dX0_link_30 : decode cX0_link 30 = .ok (.ireturn, 1) := dk_172 (dk_at dksX0_link_1 6 rfl rfl)
abbrev cX0_where : ByteArray := method_16_code
def yX0_where : MethodName := ⟨RX0, "where", "(LQueryHarbor;IIII[J)I"⟩
def dkwX0_where_1 : List UInt8 := [172, 58, 6, 6, 172, 3, 172]
abbrev dktX0_where_1 : List UInt8 := dkwX0_where_1 ++ []
def dkwX0_where_0 : List UInt8 := [25, 5, 3, 42, 27, 28, 29, 21, 4, 182, 0, 61, 133, 80, 167, 0, 15, 58, 6, 4, 172, 58, 6, 5]
abbrev dktX0_where_0 : List UInt8 := dkwX0_where_0 ++ dktX0_where_1
theorem dksX0_where_0 : cX0_where.data.toList.drop 0 = dktX0_where_0 := by decide +kernel
theorem dksX0_where_1 : cX0_where.data.toList.drop 24 = dktX0_where_1 := dk_seg dksX0_where_0 24 rfl rfl
theorem dX0_where_0 : decode cX0_where 0 = .ok (.aload 5, 2) := dk_25 5 (dk_at dksX0_where_0 0 rfl rfl)
theorem dX0_where_2 : decode cX0_where 2 = .ok (.iconst 0, 1) := dk_3 (dk_at dksX0_where_0 2 rfl rfl)
theorem dX0_where_3 : decode cX0_where 3 = .ok (.aload_n 0, 1) := dk_42 (dk_at dksX0_where_0 3 rfl rfl)
theorem dX0_where_4 : decode cX0_where 4 = .ok (.iload_n 1, 1) := dk_27 (dk_at dksX0_where_0 4 rfl rfl)
theorem dX0_where_5 : decode cX0_where 5 = .ok (.iload_n 2, 1) := dk_28 (dk_at dksX0_where_0 5 rfl rfl)
theorem dX0_where_6 : decode cX0_where 6 = .ok (.iload_n 3, 1) := dk_29 (dk_at dksX0_where_0 6 rfl rfl)
theorem dX0_where_7 : decode cX0_where 7 = .ok (.iload 4, 2) := dk_21 4 (dk_at dksX0_where_0 7 rfl rfl)
theorem dX0_where_9 : decode cX0_where 9 = .ok (.invokevirtual 61, 3) := dk_182 0 61 (dk_at dksX0_where_0 9 rfl rfl)
theorem dX0_where_12 : decode cX0_where 12 = .ok (.i2l, 1) := dk_133 (dk_at dksX0_where_0 12 rfl rfl)
theorem dX0_where_13 : decode cX0_where 13 = .ok (.lastore, 1) := dk_80 (dk_at dksX0_where_0 13 rfl rfl)
theorem dX0_where_14 : decode cX0_where 14 = .ok (.goto 15, 3) := dk_167 0 15 (dk_at dksX0_where_0 14 rfl rfl)
theorem dX0_where_17 : decode cX0_where 17 = .ok (.astore 6, 2) := dk_58 6 (dk_at dksX0_where_0 17 rfl rfl)
theorem dX0_where_19 : decode cX0_where 19 = .ok (.iconst 1, 1) := dk_4 (dk_at dksX0_where_0 19 rfl rfl)
theorem dX0_where_20 : decode cX0_where 20 = .ok (.ireturn, 1) := dk_172 (dk_at dksX0_where_0 20 rfl rfl)
theorem dX0_where_21 : decode cX0_where 21 = .ok (.astore 6, 2) := dk_58 6 (dk_at dksX0_where_0 21 rfl rfl)
theorem dX0_where_23 : decode cX0_where 23 = .ok (.iconst 2, 1) := dk_5 (dk_at dksX0_where_0 23 rfl rfl)
theorem dX0_where_24 : decode cX0_where 24 = .ok (.ireturn, 1) := dk_172 (dk_at dksX0_where_1 0 rfl rfl)
theorem dX0_where_25 : decode cX0_where 25 = .ok (.astore 6, 2) := dk_58 6 (dk_at dksX0_where_1 1 rfl rfl)
theorem dX0_where_27 : decode cX0_where 27 = .ok (.iconst 3, 1) := dk_6 (dk_at dksX0_where_1 3 rfl rfl)
theorem dX0_where_28 : decode cX0_where 28 = .ok (.ireturn, 1) := dk_172 (dk_at dksX0_where_1 4 rfl rfl)
theorem dX0_where_29 : decode cX0_where 29 = .ok (.iconst 0, 1) := dk_3 (dk_at dksX0_where_1 5 rfl rfl)
theorem dX0_where_30 : decode cX0_where 30 = .ok (.ireturn, 1) := dk_172 (dk_at dksX0_where_1 6 rfl rfl)
abbrev cX0_out : ByteArray := method_17_code
def yX0_out : MethodName := ⟨RX0, "out", "(LQueryHarbor;II[J)I"⟩
def dkwX0_out_0 : List UInt8 := [45, 3, 42, 27, 28, 182, 0, 64, 133, 80, 167, 0, 11, 58, 4, 4, 172, 58, 4, 5, 172, 3, 172]
abbrev dktX0_out_0 : List UInt8 := dkwX0_out_0 ++ []
theorem dksX0_out_0 : cX0_out.data.toList.drop 0 = dktX0_out_0 := by decide +kernel
theorem dX0_out_0 : decode cX0_out 0 = .ok (.aload_n 3, 1) := dk_45 (dk_at dksX0_out_0 0 rfl rfl)
theorem dX0_out_1 : decode cX0_out 1 = .ok (.iconst 0, 1) := dk_3 (dk_at dksX0_out_0 1 rfl rfl)
theorem dX0_out_2 : decode cX0_out 2 = .ok (.aload_n 0, 1) := dk_42 (dk_at dksX0_out_0 2 rfl rfl)
theorem dX0_out_3 : decode cX0_out 3 = .ok (.iload_n 1, 1) := dk_27 (dk_at dksX0_out_0 3 rfl rfl)
theorem dX0_out_4 : decode cX0_out 4 = .ok (.iload_n 2, 1) := dk_28 (dk_at dksX0_out_0 4 rfl rfl)
theorem dX0_out_5 : decode cX0_out 5 = .ok (.invokevirtual 64, 3) := dk_182 0 64 (dk_at dksX0_out_0 5 rfl rfl)
theorem dX0_out_8 : decode cX0_out 8 = .ok (.i2l, 1) := dk_133 (dk_at dksX0_out_0 8 rfl rfl)
theorem dX0_out_9 : decode cX0_out 9 = .ok (.lastore, 1) := dk_80 (dk_at dksX0_out_0 9 rfl rfl)
theorem dX0_out_10 : decode cX0_out 10 = .ok (.goto 11, 3) := dk_167 0 11 (dk_at dksX0_out_0 10 rfl rfl)
theorem dX0_out_13 : decode cX0_out 13 = .ok (.astore 4, 2) := dk_58 4 (dk_at dksX0_out_0 13 rfl rfl)
theorem dX0_out_15 : decode cX0_out 15 = .ok (.iconst 1, 1) := dk_4 (dk_at dksX0_out_0 15 rfl rfl)
theorem dX0_out_16 : decode cX0_out 16 = .ok (.ireturn, 1) := dk_172 (dk_at dksX0_out_0 16 rfl rfl)
theorem dX0_out_17 : decode cX0_out 17 = .ok (.astore 4, 2) := dk_58 4 (dk_at dksX0_out_0 17 rfl rfl)
theorem dX0_out_19 : decode cX0_out 19 = .ok (.iconst 2, 1) := dk_5 (dk_at dksX0_out_0 19 rfl rfl)
theorem dX0_out_20 : decode cX0_out 20 = .ok (.ireturn, 1) := dk_172 (dk_at dksX0_out_0 20 rfl rfl)
theorem dX0_out_21 : decode cX0_out 21 = .ok (.iconst 0, 1) := dk_3 (dk_at dksX0_out_0 21 rfl rfl)
theorem dX0_out_22 : decode cX0_out 22 = .ok (.ireturn, 1) := dk_172 (dk_at dksX0_out_0 22 rfl rfl)
abbrev cX0_shape : ByteArray := method_18_code
def yX0_shape : MethodName := ⟨RX0, "shape", "(LQueryHarbor;IZ)I"⟩
def dkwX0_shape_0 : List UInt8 := [42, 27, 28, 182, 0, 67, 167, 0, 6, 78, 4, 172, 3, 172]
abbrev dktX0_shape_0 : List UInt8 := dkwX0_shape_0 ++ []
theorem dksX0_shape_0 : cX0_shape.data.toList.drop 0 = dktX0_shape_0 := by decide +kernel
theorem dX0_shape_0 : decode cX0_shape 0 = .ok (.aload_n 0, 1) := dk_42 (dk_at dksX0_shape_0 0 rfl rfl)
theorem dX0_shape_1 : decode cX0_shape 1 = .ok (.iload_n 1, 1) := dk_27 (dk_at dksX0_shape_0 1 rfl rfl)
theorem dX0_shape_2 : decode cX0_shape 2 = .ok (.iload_n 2, 1) := dk_28 (dk_at dksX0_shape_0 2 rfl rfl)
theorem dX0_shape_3 : decode cX0_shape 3 = .ok (.invokevirtual 67, 3) := dk_182 0 67 (dk_at dksX0_shape_0 3 rfl rfl)
theorem dX0_shape_6 : decode cX0_shape 6 = .ok (.goto 6, 3) := dk_167 0 6 (dk_at dksX0_shape_0 6 rfl rfl)
theorem dX0_shape_9 : decode cX0_shape 9 = .ok (.astore_n 3, 1) := dk_78 (dk_at dksX0_shape_0 9 rfl rfl)
theorem dX0_shape_10 : decode cX0_shape 10 = .ok (.iconst 1, 1) := dk_4 (dk_at dksX0_shape_0 10 rfl rfl)
theorem dX0_shape_11 : decode cX0_shape 11 = .ok (.ireturn, 1) := dk_172 (dk_at dksX0_shape_0 11 rfl rfl)
theorem dX0_shape_12 : decode cX0_shape 12 = .ok (.iconst 0, 1) := dk_3 (dk_at dksX0_shape_0 12 rfl rfl)
theorem dX0_shape_13 : decode cX0_shape 13 = .ok (.ireturn, 1) := dk_172 (dk_at dksX0_shape_0 13 rfl rfl)
abbrev cX0_ask : ByteArray := method_19_code
def yX0_ask : MethodName := ⟨RX0, "ask", "(LQueryHarbor;II[J)I"⟩
def dkwX0_ask_0 : List UInt8 := [45, 3, 42, 27, 28, 182, 0, 71, 133, 80, 167, 0, 11, 58, 4, 4, 172, 58, 4, 5, 172, 3, 172]
abbrev dktX0_ask_0 : List UInt8 := dkwX0_ask_0 ++ []
theorem dksX0_ask_0 : cX0_ask.data.toList.drop 0 = dktX0_ask_0 := by decide +kernel
theorem dX0_ask_0 : decode cX0_ask 0 = .ok (.aload_n 3, 1) := dk_45 (dk_at dksX0_ask_0 0 rfl rfl)
theorem dX0_ask_1 : decode cX0_ask 1 = .ok (.iconst 0, 1) := dk_3 (dk_at dksX0_ask_0 1 rfl rfl)
theorem dX0_ask_2 : decode cX0_ask 2 = .ok (.aload_n 0, 1) := dk_42 (dk_at dksX0_ask_0 2 rfl rfl)
theorem dX0_ask_3 : decode cX0_ask 3 = .ok (.iload_n 1, 1) := dk_27 (dk_at dksX0_ask_0 3 rfl rfl)
theorem dX0_ask_4 : decode cX0_ask 4 = .ok (.iload_n 2, 1) := dk_28 (dk_at dksX0_ask_0 4 rfl rfl)
theorem dX0_ask_5 : decode cX0_ask 5 = .ok (.invokevirtual 71, 3) := dk_182 0 71 (dk_at dksX0_ask_0 5 rfl rfl)
theorem dX0_ask_8 : decode cX0_ask 8 = .ok (.i2l, 1) := dk_133 (dk_at dksX0_ask_0 8 rfl rfl)
theorem dX0_ask_9 : decode cX0_ask 9 = .ok (.lastore, 1) := dk_80 (dk_at dksX0_ask_0 9 rfl rfl)
theorem dX0_ask_10 : decode cX0_ask 10 = .ok (.goto 11, 3) := dk_167 0 11 (dk_at dksX0_ask_0 10 rfl rfl)
theorem dX0_ask_13 : decode cX0_ask 13 = .ok (.astore 4, 2) := dk_58 4 (dk_at dksX0_ask_0 13 rfl rfl)
theorem dX0_ask_15 : decode cX0_ask 15 = .ok (.iconst 1, 1) := dk_4 (dk_at dksX0_ask_0 15 rfl rfl)
theorem dX0_ask_16 : decode cX0_ask 16 = .ok (.ireturn, 1) := dk_172 (dk_at dksX0_ask_0 16 rfl rfl)
theorem dX0_ask_17 : decode cX0_ask 17 = .ok (.astore 4, 2) := dk_58 4 (dk_at dksX0_ask_0 17 rfl rfl)
theorem dX0_ask_19 : decode cX0_ask 19 = .ok (.iconst 2, 1) := dk_5 (dk_at dksX0_ask_0 19 rfl rfl)
theorem dX0_ask_20 : decode cX0_ask 20 = .ok (.ireturn, 1) := dk_172 (dk_at dksX0_ask_0 20 rfl rfl)
theorem dX0_ask_21 : decode cX0_ask 21 = .ok (.iconst 0, 1) := dk_3 (dk_at dksX0_ask_0 21 rfl rfl)
theorem dX0_ask_22 : decode cX0_ask 22 = .ok (.ireturn, 1) := dk_172 (dk_at dksX0_ask_0 22 rfl rfl)
abbrev cX0_answer : ByteArray := method_20_code
def yX0_answer : MethodName := ⟨RX0, "answer", "(LQueryHarbor;II[J)I"⟩
def dkwX0_answer_0 : List UInt8 := [45, 3, 42, 27, 28, 182, 0, 74, 133, 80, 167, 0, 7, 58, 4, 4, 172, 3, 172]
abbrev dktX0_answer_0 : List UInt8 := dkwX0_answer_0 ++ []
theorem dksX0_answer_0 : cX0_answer.data.toList.drop 0 = dktX0_answer_0 := by decide +kernel
theorem dX0_answer_0 : decode cX0_answer 0 = .ok (.aload_n 3, 1) := dk_45 (dk_at dksX0_answer_0 0 rfl rfl)
theorem dX0_answer_1 : decode cX0_answer 1 = .ok (.iconst 0, 1) := dk_3 (dk_at dksX0_answer_0 1 rfl rfl)
theorem dX0_answer_2 : decode cX0_answer 2 = .ok (.aload_n 0, 1) := dk_42 (dk_at dksX0_answer_0 2 rfl rfl)
theorem dX0_answer_3 : decode cX0_answer 3 = .ok (.iload_n 1, 1) := dk_27 (dk_at dksX0_answer_0 3 rfl rfl)
theorem dX0_answer_4 : decode cX0_answer 4 = .ok (.iload_n 2, 1) := dk_28 (dk_at dksX0_answer_0 4 rfl rfl)
theorem dX0_answer_5 : decode cX0_answer 5 = .ok (.invokevirtual 74, 3) := dk_182 0 74 (dk_at dksX0_answer_0 5 rfl rfl)
theorem dX0_answer_8 : decode cX0_answer 8 = .ok (.i2l, 1) := dk_133 (dk_at dksX0_answer_0 8 rfl rfl)
theorem dX0_answer_9 : decode cX0_answer 9 = .ok (.lastore, 1) := dk_80 (dk_at dksX0_answer_0 9 rfl rfl)
theorem dX0_answer_10 : decode cX0_answer 10 = .ok (.goto 7, 3) := dk_167 0 7 (dk_at dksX0_answer_0 10 rfl rfl)
theorem dX0_answer_13 : decode cX0_answer 13 = .ok (.astore 4, 2) := dk_58 4 (dk_at dksX0_answer_0 13 rfl rfl)
theorem dX0_answer_15 : decode cX0_answer 15 = .ok (.iconst 1, 1) := dk_4 (dk_at dksX0_answer_0 15 rfl rfl)
theorem dX0_answer_16 : decode cX0_answer 16 = .ok (.ireturn, 1) := dk_172 (dk_at dksX0_answer_0 16 rfl rfl)
theorem dX0_answer_17 : decode cX0_answer 17 = .ok (.iconst 0, 1) := dk_3 (dk_at dksX0_answer_0 17 rfl rfl)
theorem dX0_answer_18 : decode cX0_answer 18 = .ok (.ireturn, 1) := dk_172 (dk_at dksX0_answer_0 18 rfl rfl)
abbrev cX0_taken : ByteArray := method_21_code
def yX0_taken : MethodName := ⟨RX0, "taken", "(LQueryHarbor;I[J)I"⟩
def dkwX0_taken_0 : List UInt8 := [44, 3, 42, 27, 182, 0, 77, 133, 80, 167, 0, 6, 78, 4, 172, 3, 172]
abbrev dktX0_taken_0 : List UInt8 := dkwX0_taken_0 ++ []
theorem dksX0_taken_0 : cX0_taken.data.toList.drop 0 = dktX0_taken_0 := by decide +kernel
theorem dX0_taken_0 : decode cX0_taken 0 = .ok (.aload_n 2, 1) := dk_44 (dk_at dksX0_taken_0 0 rfl rfl)
theorem dX0_taken_1 : decode cX0_taken 1 = .ok (.iconst 0, 1) := dk_3 (dk_at dksX0_taken_0 1 rfl rfl)
theorem dX0_taken_2 : decode cX0_taken 2 = .ok (.aload_n 0, 1) := dk_42 (dk_at dksX0_taken_0 2 rfl rfl)
theorem dX0_taken_3 : decode cX0_taken 3 = .ok (.iload_n 1, 1) := dk_27 (dk_at dksX0_taken_0 3 rfl rfl)
theorem dX0_taken_4 : decode cX0_taken 4 = .ok (.invokevirtual 77, 3) := dk_182 0 77 (dk_at dksX0_taken_0 4 rfl rfl)
theorem dX0_taken_7 : decode cX0_taken 7 = .ok (.i2l, 1) := dk_133 (dk_at dksX0_taken_0 7 rfl rfl)
theorem dX0_taken_8 : decode cX0_taken 8 = .ok (.lastore, 1) := dk_80 (dk_at dksX0_taken_0 8 rfl rfl)
theorem dX0_taken_9 : decode cX0_taken 9 = .ok (.goto 6, 3) := dk_167 0 6 (dk_at dksX0_taken_0 9 rfl rfl)
theorem dX0_taken_12 : decode cX0_taken 12 = .ok (.astore_n 3, 1) := dk_78 (dk_at dksX0_taken_0 12 rfl rfl)
theorem dX0_taken_13 : decode cX0_taken 13 = .ok (.iconst 1, 1) := dk_4 (dk_at dksX0_taken_0 13 rfl rfl)
theorem dX0_taken_14 : decode cX0_taken 14 = .ok (.ireturn, 1) := dk_172 (dk_at dksX0_taken_0 14 rfl rfl)
theorem dX0_taken_15 : decode cX0_taken 15 = .ok (.iconst 0, 1) := dk_3 (dk_at dksX0_taken_0 15 rfl rfl)
theorem dX0_taken_16 : decode cX0_taken 16 = .ok (.ireturn, 1) := dk_172 (dk_at dksX0_taken_0 16 rfl rfl)
abbrev cX0_size : ByteArray := method_22_code
def yX0_size : MethodName := ⟨RX0, "size", "(LQueryHarbor;I[J)I"⟩
def dkwX0_size_0 : List UInt8 := [44, 3, 42, 27, 182, 0, 80, 133, 80, 167, 0, 6, 78, 4, 172, 3, 172]
abbrev dktX0_size_0 : List UInt8 := dkwX0_size_0 ++ []
theorem dksX0_size_0 : cX0_size.data.toList.drop 0 = dktX0_size_0 := by decide +kernel
theorem dX0_size_0 : decode cX0_size 0 = .ok (.aload_n 2, 1) := dk_44 (dk_at dksX0_size_0 0 rfl rfl)
theorem dX0_size_1 : decode cX0_size 1 = .ok (.iconst 0, 1) := dk_3 (dk_at dksX0_size_0 1 rfl rfl)
theorem dX0_size_2 : decode cX0_size 2 = .ok (.aload_n 0, 1) := dk_42 (dk_at dksX0_size_0 2 rfl rfl)
theorem dX0_size_3 : decode cX0_size 3 = .ok (.iload_n 1, 1) := dk_27 (dk_at dksX0_size_0 3 rfl rfl)
theorem dX0_size_4 : decode cX0_size 4 = .ok (.invokevirtual 80, 3) := dk_182 0 80 (dk_at dksX0_size_0 4 rfl rfl)
theorem dX0_size_7 : decode cX0_size 7 = .ok (.i2l, 1) := dk_133 (dk_at dksX0_size_0 7 rfl rfl)
theorem dX0_size_8 : decode cX0_size 8 = .ok (.lastore, 1) := dk_80 (dk_at dksX0_size_0 8 rfl rfl)
theorem dX0_size_9 : decode cX0_size 9 = .ok (.goto 6, 3) := dk_167 0 6 (dk_at dksX0_size_0 9 rfl rfl)
theorem dX0_size_12 : decode cX0_size 12 = .ok (.astore_n 3, 1) := dk_78 (dk_at dksX0_size_0 12 rfl rfl)
theorem dX0_size_13 : decode cX0_size 13 = .ok (.iconst 1, 1) := dk_4 (dk_at dksX0_size_0 13 rfl rfl)
theorem dX0_size_14 : decode cX0_size 14 = .ok (.ireturn, 1) := dk_172 (dk_at dksX0_size_0 14 rfl rfl)
theorem dX0_size_15 : decode cX0_size 15 = .ok (.iconst 0, 1) := dk_3 (dk_at dksX0_size_0 15 rfl rfl)
theorem dX0_size_16 : decode cX0_size 16 = .ok (.ireturn, 1) := dk_172 (dk_at dksX0_size_0 16 rfl rfl)
abbrev cX0_answersAnew : ByteArray := method_23_code
def yX0_answersAnew : MethodName := ⟨RX0, "answersAnew", "(LQueryHarbor;[J)I"⟩
def dkwX0_answersAnew_0 : List UInt8 := [43, 3, 42, 182, 0, 83, 133, 80, 167, 0, 6, 77, 4, 172, 3, 172]
abbrev dktX0_answersAnew_0 : List UInt8 := dkwX0_answersAnew_0 ++ []
theorem dksX0_answersAnew_0 : cX0_answersAnew.data.toList.drop 0 = dktX0_answersAnew_0 := by decide +kernel
theorem dX0_answersAnew_0 : decode cX0_answersAnew 0 = .ok (.aload_n 1, 1) := dk_43 (dk_at dksX0_answersAnew_0 0 rfl rfl)
theorem dX0_answersAnew_1 : decode cX0_answersAnew 1 = .ok (.iconst 0, 1) := dk_3 (dk_at dksX0_answersAnew_0 1 rfl rfl)
theorem dX0_answersAnew_2 : decode cX0_answersAnew 2 = .ok (.aload_n 0, 1) := dk_42 (dk_at dksX0_answersAnew_0 2 rfl rfl)
theorem dX0_answersAnew_3 : decode cX0_answersAnew 3 = .ok (.invokevirtual 83, 3) := dk_182 0 83 (dk_at dksX0_answersAnew_0 3 rfl rfl)
theorem dX0_answersAnew_6 : decode cX0_answersAnew 6 = .ok (.i2l, 1) := dk_133 (dk_at dksX0_answersAnew_0 6 rfl rfl)
theorem dX0_answersAnew_7 : decode cX0_answersAnew 7 = .ok (.lastore, 1) := dk_80 (dk_at dksX0_answersAnew_0 7 rfl rfl)
theorem dX0_answersAnew_8 : decode cX0_answersAnew 8 = .ok (.goto 6, 3) := dk_167 0 6 (dk_at dksX0_answersAnew_0 8 rfl rfl)
theorem dX0_answersAnew_11 : decode cX0_answersAnew 11 = .ok (.astore_n 2, 1) := dk_77 (dk_at dksX0_answersAnew_0 11 rfl rfl)
theorem dX0_answersAnew_12 : decode cX0_answersAnew 12 = .ok (.iconst 1, 1) := dk_4 (dk_at dksX0_answersAnew_0 12 rfl rfl)
theorem dX0_answersAnew_13 : decode cX0_answersAnew 13 = .ok (.ireturn, 1) := dk_172 (dk_at dksX0_answersAnew_0 13 rfl rfl)
theorem dX0_answersAnew_14 : decode cX0_answersAnew 14 = .ok (.iconst 0, 1) := dk_3 (dk_at dksX0_answersAnew_0 14 rfl rfl)
theorem dX0_answersAnew_15 : decode cX0_answersAnew 15 = .ok (.ireturn, 1) := dk_172 (dk_at dksX0_answersAnew_0 15 rfl rfl)
abbrev cX0_answerAnew : ByteArray := method_24_code
def yX0_answerAnew : MethodName := ⟨RX0, "answerAnew", "(LQueryHarbor;II[J)I"⟩
def dkwX0_answerAnew_0 : List UInt8 := [45, 3, 42, 27, 28, 182, 0, 87, 133, 80, 167, 0, 11, 58, 4, 4, 172, 58, 4, 5, 172, 3, 172]
abbrev dktX0_answerAnew_0 : List UInt8 := dkwX0_answerAnew_0 ++ []
theorem dksX0_answerAnew_0 : cX0_answerAnew.data.toList.drop 0 = dktX0_answerAnew_0 := by decide +kernel
theorem dX0_answerAnew_0 : decode cX0_answerAnew 0 = .ok (.aload_n 3, 1) := dk_45 (dk_at dksX0_answerAnew_0 0 rfl rfl)
theorem dX0_answerAnew_1 : decode cX0_answerAnew 1 = .ok (.iconst 0, 1) := dk_3 (dk_at dksX0_answerAnew_0 1 rfl rfl)
theorem dX0_answerAnew_2 : decode cX0_answerAnew 2 = .ok (.aload_n 0, 1) := dk_42 (dk_at dksX0_answerAnew_0 2 rfl rfl)
theorem dX0_answerAnew_3 : decode cX0_answerAnew 3 = .ok (.iload_n 1, 1) := dk_27 (dk_at dksX0_answerAnew_0 3 rfl rfl)
theorem dX0_answerAnew_4 : decode cX0_answerAnew 4 = .ok (.iload_n 2, 1) := dk_28 (dk_at dksX0_answerAnew_0 4 rfl rfl)
theorem dX0_answerAnew_5 : decode cX0_answerAnew 5 = .ok (.invokevirtual 87, 3) := dk_182 0 87 (dk_at dksX0_answerAnew_0 5 rfl rfl)
theorem dX0_answerAnew_8 : decode cX0_answerAnew 8 = .ok (.i2l, 1) := dk_133 (dk_at dksX0_answerAnew_0 8 rfl rfl)
theorem dX0_answerAnew_9 : decode cX0_answerAnew 9 = .ok (.lastore, 1) := dk_80 (dk_at dksX0_answerAnew_0 9 rfl rfl)
theorem dX0_answerAnew_10 : decode cX0_answerAnew 10 = .ok (.goto 11, 3) := dk_167 0 11 (dk_at dksX0_answerAnew_0 10 rfl rfl)
theorem dX0_answerAnew_13 : decode cX0_answerAnew 13 = .ok (.astore 4, 2) := dk_58 4 (dk_at dksX0_answerAnew_0 13 rfl rfl)
theorem dX0_answerAnew_15 : decode cX0_answerAnew 15 = .ok (.iconst 1, 1) := dk_4 (dk_at dksX0_answerAnew_0 15 rfl rfl)
theorem dX0_answerAnew_16 : decode cX0_answerAnew 16 = .ok (.ireturn, 1) := dk_172 (dk_at dksX0_answerAnew_0 16 rfl rfl)
theorem dX0_answerAnew_17 : decode cX0_answerAnew 17 = .ok (.astore 4, 2) := dk_58 4 (dk_at dksX0_answerAnew_0 17 rfl rfl)
theorem dX0_answerAnew_19 : decode cX0_answerAnew 19 = .ok (.iconst 2, 1) := dk_5 (dk_at dksX0_answerAnew_0 19 rfl rfl)
theorem dX0_answerAnew_20 : decode cX0_answerAnew 20 = .ok (.ireturn, 1) := dk_172 (dk_at dksX0_answerAnew_0 20 rfl rfl)
theorem dX0_answerAnew_21 : decode cX0_answerAnew 21 = .ok (.iconst 0, 1) := dk_3 (dk_at dksX0_answerAnew_0 21 rfl rfl)
theorem dX0_answerAnew_22 : decode cX0_answerAnew 22 = .ok (.ireturn, 1) := dk_172 (dk_at dksX0_answerAnew_0 22 rfl rfl)
abbrev cX0_step : ByteArray := method_25_code
def yX0_step : MethodName := ⟨RX0, "step", "(LQueryHarbor;IIIIII[J)I"⟩
def dkwX0_step_1 : List UInt8 := [172, 58, 8, 5, 172, 58, 8, 6, 172, 3, 172]
abbrev dktX0_step_1 : List UInt8 := dkwX0_step_1 ++ []
def dkwX0_step_0 : List UInt8 := [25, 7, 3, 42, 27, 28, 29, 21, 4, 21, 5, 21, 6, 182, 0, 90, 133, 80, 167, 0, 15, 58, 8, 4]
abbrev dktX0_step_0 : List UInt8 := dkwX0_step_0 ++ dktX0_step_1
theorem dksX0_step_0 : cX0_step.data.toList.drop 0 = dktX0_step_0 := by decide +kernel
theorem dksX0_step_1 : cX0_step.data.toList.drop 24 = dktX0_step_1 := dk_seg dksX0_step_0 24 rfl rfl
theorem dX0_step_0 : decode cX0_step 0 = .ok (.aload 7, 2) := dk_25 7 (dk_at dksX0_step_0 0 rfl rfl)
theorem dX0_step_2 : decode cX0_step 2 = .ok (.iconst 0, 1) := dk_3 (dk_at dksX0_step_0 2 rfl rfl)
theorem dX0_step_3 : decode cX0_step 3 = .ok (.aload_n 0, 1) := dk_42 (dk_at dksX0_step_0 3 rfl rfl)
theorem dX0_step_4 : decode cX0_step 4 = .ok (.iload_n 1, 1) := dk_27 (dk_at dksX0_step_0 4 rfl rfl)
theorem dX0_step_5 : decode cX0_step 5 = .ok (.iload_n 2, 1) := dk_28 (dk_at dksX0_step_0 5 rfl rfl)
theorem dX0_step_6 : decode cX0_step 6 = .ok (.iload_n 3, 1) := dk_29 (dk_at dksX0_step_0 6 rfl rfl)
theorem dX0_step_7 : decode cX0_step 7 = .ok (.iload 4, 2) := dk_21 4 (dk_at dksX0_step_0 7 rfl rfl)
theorem dX0_step_9 : decode cX0_step 9 = .ok (.iload 5, 2) := dk_21 5 (dk_at dksX0_step_0 9 rfl rfl)
theorem dX0_step_11 : decode cX0_step 11 = .ok (.iload 6, 2) := dk_21 6 (dk_at dksX0_step_0 11 rfl rfl)
theorem dX0_step_13 : decode cX0_step 13 = .ok (.invokevirtual 90, 3) := dk_182 0 90 (dk_at dksX0_step_0 13 rfl rfl)
theorem dX0_step_16 : decode cX0_step 16 = .ok (.i2l, 1) := dk_133 (dk_at dksX0_step_0 16 rfl rfl)
theorem dX0_step_17 : decode cX0_step 17 = .ok (.lastore, 1) := dk_80 (dk_at dksX0_step_0 17 rfl rfl)
theorem dX0_step_18 : decode cX0_step 18 = .ok (.goto 15, 3) := dk_167 0 15 (dk_at dksX0_step_0 18 rfl rfl)
theorem dX0_step_21 : decode cX0_step 21 = .ok (.astore 8, 2) := dk_58 8 (dk_at dksX0_step_0 21 rfl rfl)
theorem dX0_step_23 : decode cX0_step 23 = .ok (.iconst 1, 1) := dk_4 (dk_at dksX0_step_0 23 rfl rfl)
theorem dX0_step_24 : decode cX0_step 24 = .ok (.ireturn, 1) := dk_172 (dk_at dksX0_step_1 0 rfl rfl)
theorem dX0_step_25 : decode cX0_step 25 = .ok (.astore 8, 2) := dk_58 8 (dk_at dksX0_step_1 1 rfl rfl)
theorem dX0_step_27 : decode cX0_step 27 = .ok (.iconst 2, 1) := dk_5 (dk_at dksX0_step_1 3 rfl rfl)
theorem dX0_step_28 : decode cX0_step 28 = .ok (.ireturn, 1) := dk_172 (dk_at dksX0_step_1 4 rfl rfl)
theorem dX0_step_29 : decode cX0_step 29 = .ok (.astore 8, 2) := dk_58 8 (dk_at dksX0_step_1 5 rfl rfl)
theorem dX0_step_31 : decode cX0_step 31 = .ok (.iconst 3, 1) := dk_6 (dk_at dksX0_step_1 7 rfl rfl)
theorem dX0_step_32 : decode cX0_step 32 = .ok (.ireturn, 1) := dk_172 (dk_at dksX0_step_1 8 rfl rfl)
theorem dX0_step_33 : decode cX0_step 33 = .ok (.iconst 0, 1) := dk_3 (dk_at dksX0_step_1 9 rfl rfl)
theorem dX0_step_34 : decode cX0_step 34 = .ok (.ireturn, 1) := dk_172 (dk_at dksX0_step_1 10 rfl rfl)
abbrev cX0_run : ByteArray := method_26_code
def yX0_run : MethodName := ⟨RX0, "run", "(LQueryHarbor;[J)I"⟩
def dkwX0_run_0 : List UInt8 := [43, 3, 42, 182, 0, 94, 133, 80, 167, 0, 6, 77, 4, 172, 3, 172]
abbrev dktX0_run_0 : List UInt8 := dkwX0_run_0 ++ []
theorem dksX0_run_0 : cX0_run.data.toList.drop 0 = dktX0_run_0 := by decide +kernel
theorem dX0_run_0 : decode cX0_run 0 = .ok (.aload_n 1, 1) := dk_43 (dk_at dksX0_run_0 0 rfl rfl)
theorem dX0_run_1 : decode cX0_run 1 = .ok (.iconst 0, 1) := dk_3 (dk_at dksX0_run_0 1 rfl rfl)
theorem dX0_run_2 : decode cX0_run 2 = .ok (.aload_n 0, 1) := dk_42 (dk_at dksX0_run_0 2 rfl rfl)
theorem dX0_run_3 : decode cX0_run 3 = .ok (.invokevirtual 94, 3) := dk_182 0 94 (dk_at dksX0_run_0 3 rfl rfl)
theorem dX0_run_6 : decode cX0_run 6 = .ok (.i2l, 1) := dk_133 (dk_at dksX0_run_0 6 rfl rfl)
theorem dX0_run_7 : decode cX0_run 7 = .ok (.lastore, 1) := dk_80 (dk_at dksX0_run_0 7 rfl rfl)
theorem dX0_run_8 : decode cX0_run 8 = .ok (.goto 6, 3) := dk_167 0 6 (dk_at dksX0_run_0 8 rfl rfl)
theorem dX0_run_11 : decode cX0_run 11 = .ok (.astore_n 2, 1) := dk_77 (dk_at dksX0_run_0 11 rfl rfl)
theorem dX0_run_12 : decode cX0_run 12 = .ok (.iconst 1, 1) := dk_4 (dk_at dksX0_run_0 12 rfl rfl)
theorem dX0_run_13 : decode cX0_run 13 = .ok (.ireturn, 1) := dk_172 (dk_at dksX0_run_0 13 rfl rfl)
theorem dX0_run_14 : decode cX0_run 14 = .ok (.iconst 0, 1) := dk_3 (dk_at dksX0_run_0 14 rfl rfl)
theorem dX0_run_15 : decode cX0_run 15 = .ok (.ireturn, 1) := dk_172 (dk_at dksX0_run_0 15 rfl rfl)
theorem q84 : (Jvm.Cond.initialized "QueryHarborLaw") ∈ lw_all := lw_g (lw_at lw_m1 0 rfl) rfl
theorem q127 : (Jvm.Cond.classLink "QueryHarborLaw" (8 : Nat) "QueryHarbor") ∈ lw_all := lw_g (lw_at lw_m1 43 rfl) rfl
theorem q129 : (Jvm.Cond.methodLink "QueryHarborLaw" (97 : Nat) ({ cls := "QueryHarbor", name := "<init>", desc := "()V" } : Jvm.MethodName)) ∈ lw_all := lw_g (lw_at lw_m1 45 rfl) rfl
theorem q350 : (Jvm.Cond.methodLink "QueryHarborLaw" (126 : Nat) ({ cls := "QueryHarbor", name := "losses", desc := "()I" } : Jvm.MethodName)) ∈ lw_all := lw_g (lw_at lw_m2 26 rfl) rfl
theorem q354 : (Jvm.Cond.methodLink "QueryHarborLaw" (130 : Nat) ({ cls := "QueryHarbor", name := "moment", desc := "()I" } : Jvm.MethodName)) ∈ lw_all := lw_g (lw_at lw_m2 30 rfl) rfl
theorem q358 : (Jvm.Cond.methodLink "QueryHarborLaw" (153 : Nat) ({ cls := "QueryHarbor", name := "now", desc := "()I" } : Jvm.MethodName)) ∈ lw_all := lw_g (lw_at lw_m2 34 rfl) rfl
theorem q362 : (Jvm.Cond.methodLink "QueryHarborLaw" (173 : Nat) ({ cls := "QueryHarbor", name := "clear", desc := "()I" } : Jvm.MethodName)) ∈ lw_all := lw_g (lw_at lw_m2 38 rfl) rfl
theorem q374 : (Jvm.Cond.methodLink "QueryHarborLaw" (180 : Nat) ({ cls := "QueryHarbor", name := "answers", desc := "()I" } : Jvm.MethodName)) ∈ lw_all := lw_g (lw_at lw_m2 50 rfl) rfl
theorem q378 : (Jvm.Cond.methodLink "QueryHarborLaw" (187 : Nat) ({ cls := "QueryHarbor", name := "missing", desc := "()I" } : Jvm.MethodName)) ∈ lw_all := lw_g (lw_at lw_m2 54 rfl) rfl
theorem q382 : (Jvm.Cond.methodLink "QueryHarborLaw" (191 : Nat) ({ cls := "QueryHarbor", name := "claims", desc := "()I" } : Jvm.MethodName)) ∈ lw_all := lw_g (lw_at lw_m2 58 rfl) rfl
theorem q386 : (Jvm.Cond.methodLink "QueryHarborLaw" (195 : Nat) ({ cls := "QueryHarbor", name := "cost", desc := "()I" } : Jvm.MethodName)) ∈ lw_all := lw_g (lw_at lw_m2 62 rfl) rfl
theorem q390 : (Jvm.Cond.methodLink "QueryHarborLaw" (199 : Nat) ({ cls := "QueryHarbor", name := "attempts", desc := "()I" } : Jvm.MethodName)) ∈ lw_all := lw_g (lw_at lw_m2 66 rfl) rfl
theorem q394 : (Jvm.Cond.methodLink "QueryHarborLaw" (203 : Nat) ({ cls := "QueryHarbor", name := "shipped", desc := "()I" } : Jvm.MethodName)) ∈ lw_all := lw_g (lw_at lw_m2 70 rfl) rfl
theorem q398 : (Jvm.Cond.methodLink "QueryHarborLaw" (213 : Nat) ({ cls := "QueryHarbor", name := "entries", desc := "()I" } : Jvm.MethodName)) ∈ lw_all := lw_g (lw_at lw_m2 74 rfl) rfl
theorem q402 : (Jvm.Cond.methodLink "QueryHarborLaw" (101 : Nat) ({ cls := "QueryHarborLaw", name := "add", desc := "(LQueryHarbor;IIIII[J)I" } : Jvm.MethodName)) ∈ lw_all := lw_g (lw_at lw_m2 78 rfl) rfl
theorem q403 : (Jvm.Cond.static ({ cls := "QueryHarborLaw", name := "add", desc := "(LQueryHarbor;IIIII[J)I" } : Jvm.MethodName)) ∈ lw_all := lw_g (lw_at lw_m2 79 rfl) rfl
theorem q404 : (Jvm.Cond.codeWith ({ cls := "QueryHarborLaw", name := "add", desc := "(LQueryHarbor;IIIII[J)I" } : Jvm.MethodName) method_3_code (8 : Nat) (Option.some Jvm.ClassFile.FieldType.int) [((0 : Nat), (16 : Nat), (19 : Nat), (13 : Nat)), ((0 : Nat), (16 : Nat), (23 : Nat), (15 : Nat)), ((0 : Nat), (16 : Nat), (27 : Nat), (17 : Nat))]) ∈ lw_all := lw_g (lw_at lw_m2 80 rfl) rfl
theorem q405 : (Jvm.Cond.classLink "QueryHarborLaw" (13 : Nat) "java/lang/IndexOutOfBoundsException") ∈ lw_all := lw_g (lw_at lw_m2 81 rfl) rfl
theorem q484 : (Jvm.Cond.classLink "QueryHarborLaw" (15 : Nat) "java/lang/IllegalArgumentException") ∈ lw_all := lw_g (lw_at lw_m2 160 rfl) rfl
theorem q485 : (Jvm.Cond.classLink "QueryHarborLaw" (17 : Nat) "java/lang/IllegalStateException") ∈ lw_all := lw_g (lw_at lw_m2 161 rfl) rfl
theorem q486 : (Jvm.Cond.methodLink "QueryHarborLaw" (7 : Nat) ({ cls := "QueryHarbor", name := "add", desc := "(IIIII)I" } : Jvm.MethodName)) ∈ lw_all := lw_g (lw_at lw_m2 162 rfl) rfl
theorem q1027 : (Jvm.Cond.methodLink "QueryHarborLaw" (110 : Nat) ({ cls := "QueryHarborLaw", name := "change", desc := "(LQueryHarbor;IIII[J)I" } : Jvm.MethodName)) ∈ lw_all := lw_g (lw_at lw_m4 223 rfl) rfl
theorem q1028 : (Jvm.Cond.static ({ cls := "QueryHarborLaw", name := "change", desc := "(LQueryHarbor;IIII[J)I" } : Jvm.MethodName)) ∈ lw_all := lw_g (lw_at lw_m4 224 rfl) rfl
theorem q1029 : (Jvm.Cond.codeWith ({ cls := "QueryHarborLaw", name := "change", desc := "(LQueryHarbor;IIII[J)I" } : Jvm.MethodName) method_4_code (7 : Nat) (Option.some Jvm.ClassFile.FieldType.int) [((0 : Nat), (14 : Nat), (17 : Nat), (13 : Nat)), ((0 : Nat), (14 : Nat), (21 : Nat), (15 : Nat))]) ∈ lw_all := lw_g (lw_at lw_m4 225 rfl) rfl
theorem q1030 : (Jvm.Cond.methodLink "QueryHarborLaw" (19 : Nat) ({ cls := "QueryHarbor", name := "change", desc := "(IIII)I" } : Jvm.MethodName)) ∈ lw_all := lw_g (lw_at lw_m4 226 rfl) rfl
theorem q1066 : (Jvm.Cond.methodLink "QueryHarborLaw" (114 : Nat) ({ cls := "QueryHarborLaw", name := "remove", desc := "(LQueryHarbor;II[J)I" } : Jvm.MethodName)) ∈ lw_all := lw_g (lw_at lw_m5 22 rfl) rfl
theorem q1067 : (Jvm.Cond.static ({ cls := "QueryHarborLaw", name := "remove", desc := "(LQueryHarbor;II[J)I" } : Jvm.MethodName)) ∈ lw_all := lw_g (lw_at lw_m5 23 rfl) rfl
theorem q1068 : (Jvm.Cond.codeWith ({ cls := "QueryHarborLaw", name := "remove", desc := "(LQueryHarbor;II[J)I" } : Jvm.MethodName) method_5_code (5 : Nat) (Option.some Jvm.ClassFile.FieldType.int) [((0 : Nat), (10 : Nat), (13 : Nat), (13 : Nat))]) ∈ lw_all := lw_g (lw_at lw_m5 24 rfl) rfl
theorem q1069 : (Jvm.Cond.methodLink "QueryHarborLaw" (23 : Nat) ({ cls := "QueryHarbor", name := "remove", desc := "(II)I" } : Jvm.MethodName)) ∈ lw_all := lw_g (lw_at lw_m5 25 rfl) rfl
theorem q1073 : (Jvm.Cond.methodLink "QueryHarborLaw" (118 : Nat) ({ cls := "QueryHarborLaw", name := "count", desc := "(LQueryHarbor;I[J)I" } : Jvm.MethodName)) ∈ lw_all := lw_g (lw_at lw_m5 29 rfl) rfl
theorem q1074 : (Jvm.Cond.static ({ cls := "QueryHarborLaw", name := "count", desc := "(LQueryHarbor;I[J)I" } : Jvm.MethodName)) ∈ lw_all := lw_g (lw_at lw_m5 30 rfl) rfl
theorem q1075 : (Jvm.Cond.codeWith ({ cls := "QueryHarborLaw", name := "count", desc := "(LQueryHarbor;I[J)I" } : Jvm.MethodName) method_6_code (4 : Nat) (Option.some Jvm.ClassFile.FieldType.int) [((0 : Nat), (9 : Nat), (12 : Nat), (13 : Nat))]) ∈ lw_all := lw_g (lw_at lw_m5 31 rfl) rfl
theorem q1076 : (Jvm.Cond.methodLink "QueryHarborLaw" (27 : Nat) ({ cls := "QueryHarbor", name := "count", desc := "(I)I" } : Jvm.MethodName)) ∈ lw_all := lw_g (lw_at lw_m5 32 rfl) rfl
theorem q1080 : (Jvm.Cond.methodLink "QueryHarborLaw" (122 : Nat) ({ cls := "QueryHarborLaw", name := "cell", desc := "(LQueryHarbor;III[J)I" } : Jvm.MethodName)) ∈ lw_all := lw_g (lw_at lw_m5 36 rfl) rfl
theorem q1081 : (Jvm.Cond.static ({ cls := "QueryHarborLaw", name := "cell", desc := "(LQueryHarbor;III[J)I" } : Jvm.MethodName)) ∈ lw_all := lw_g (lw_at lw_m5 37 rfl) rfl
theorem q1082 : (Jvm.Cond.codeWith ({ cls := "QueryHarborLaw", name := "cell", desc := "(LQueryHarbor;III[J)I" } : Jvm.MethodName) method_7_code (6 : Nat) (Option.some Jvm.ClassFile.FieldType.int) [((0 : Nat), (12 : Nat), (15 : Nat), (13 : Nat))]) ∈ lw_all := lw_g (lw_at lw_m5 38 rfl) rfl
theorem q1083 : (Jvm.Cond.methodLink "QueryHarborLaw" (31 : Nat) ({ cls := "QueryHarbor", name := "cell", desc := "(III)I" } : Jvm.MethodName)) ∈ lw_all := lw_g (lw_at lw_m5 39 rfl) rfl
theorem q1087 : (Jvm.Cond.methodLink "QueryHarborLaw" (134 : Nat) ({ cls := "QueryHarborLaw", name := "setPace", desc := "(LQueryHarbor;III[J)I" } : Jvm.MethodName)) ∈ lw_all := lw_g (lw_at lw_m5 43 rfl) rfl
theorem q1088 : (Jvm.Cond.static ({ cls := "QueryHarborLaw", name := "setPace", desc := "(LQueryHarbor;III[J)I" } : Jvm.MethodName)) ∈ lw_all := lw_g (lw_at lw_m5 44 rfl) rfl
theorem q1089 : (Jvm.Cond.codeWith ({ cls := "QueryHarborLaw", name := "setPace", desc := "(LQueryHarbor;III[J)I" } : Jvm.MethodName) method_8_code (6 : Nat) (Option.some Jvm.ClassFile.FieldType.int) [((0 : Nat), (12 : Nat), (15 : Nat), (13 : Nat)), ((0 : Nat), (12 : Nat), (19 : Nat), (15 : Nat))]) ∈ lw_all := lw_g (lw_at lw_m5 45 rfl) rfl
theorem q1090 : (Jvm.Cond.methodLink "QueryHarborLaw" (35 : Nat) ({ cls := "QueryHarbor", name := "setPace", desc := "(III)I" } : Jvm.MethodName)) ∈ lw_all := lw_g (lw_at lw_m5 46 rfl) rfl
theorem q1101 : (Jvm.Cond.methodLink "QueryHarborLaw" (137 : Nat) ({ cls := "QueryHarborLaw", name := "setBounds", desc := "(LQueryHarbor;III[J)I" } : Jvm.MethodName)) ∈ lw_all := lw_g (lw_at lw_m5 57 rfl) rfl
theorem q1102 : (Jvm.Cond.static ({ cls := "QueryHarborLaw", name := "setBounds", desc := "(LQueryHarbor;III[J)I" } : Jvm.MethodName)) ∈ lw_all := lw_g (lw_at lw_m5 58 rfl) rfl
theorem q1103 : (Jvm.Cond.codeWith ({ cls := "QueryHarborLaw", name := "setBounds", desc := "(LQueryHarbor;III[J)I" } : Jvm.MethodName) method_9_code (6 : Nat) (Option.some Jvm.ClassFile.FieldType.int) [((0 : Nat), (12 : Nat), (15 : Nat), (13 : Nat)), ((0 : Nat), (12 : Nat), (19 : Nat), (15 : Nat))]) ∈ lw_all := lw_g (lw_at lw_m5 59 rfl) rfl
theorem q1104 : (Jvm.Cond.methodLink "QueryHarborLaw" (38 : Nat) ({ cls := "QueryHarbor", name := "setBounds", desc := "(III)I" } : Jvm.MethodName)) ∈ lw_all := lw_g (lw_at lw_m5 60 rfl) rfl
theorem q1108 : (Jvm.Cond.methodLink "QueryHarborLaw" (140 : Nat) ({ cls := "QueryHarborLaw", name := "setLease", desc := "(LQueryHarbor;II[J)I" } : Jvm.MethodName)) ∈ lw_all := lw_g (lw_at lw_m5 64 rfl) rfl
theorem q1109 : (Jvm.Cond.static ({ cls := "QueryHarborLaw", name := "setLease", desc := "(LQueryHarbor;II[J)I" } : Jvm.MethodName)) ∈ lw_all := lw_g (lw_at lw_m5 65 rfl) rfl
theorem q1110 : (Jvm.Cond.codeWith ({ cls := "QueryHarborLaw", name := "setLease", desc := "(LQueryHarbor;II[J)I" } : Jvm.MethodName) method_10_code (5 : Nat) (Option.some Jvm.ClassFile.FieldType.int) [((0 : Nat), (10 : Nat), (13 : Nat), (13 : Nat)), ((0 : Nat), (10 : Nat), (17 : Nat), (15 : Nat))]) ∈ lw_all := lw_g (lw_at lw_m5 66 rfl) rfl
theorem q1111 : (Jvm.Cond.methodLink "QueryHarborLaw" (41 : Nat) ({ cls := "QueryHarbor", name := "setLease", desc := "(II)I" } : Jvm.MethodName)) ∈ lw_all := lw_g (lw_at lw_m5 67 rfl) rfl
theorem q1115 : (Jvm.Cond.methodLink "QueryHarborLaw" (143 : Nat) ({ cls := "QueryHarborLaw", name := "fail", desc := "(LQueryHarbor;IIZ[J)I" } : Jvm.MethodName)) ∈ lw_all := lw_g (lw_at lw_m5 71 rfl) rfl
theorem q1116 : (Jvm.Cond.static ({ cls := "QueryHarborLaw", name := "fail", desc := "(LQueryHarbor;IIZ[J)I" } : Jvm.MethodName)) ∈ lw_all := lw_g (lw_at lw_m5 72 rfl) rfl
theorem q1117 : (Jvm.Cond.codeWith ({ cls := "QueryHarborLaw", name := "fail", desc := "(LQueryHarbor;IIZ[J)I" } : Jvm.MethodName) method_11_code (6 : Nat) (Option.some Jvm.ClassFile.FieldType.int) [((0 : Nat), (12 : Nat), (15 : Nat), (13 : Nat)), ((0 : Nat), (12 : Nat), (19 : Nat), (15 : Nat))]) ∈ lw_all := lw_g (lw_at lw_m5 73 rfl) rfl
theorem q1118 : (Jvm.Cond.methodLink "QueryHarborLaw" (44 : Nat) ({ cls := "QueryHarbor", name := "fail", desc := "(IIZ)I" } : Jvm.MethodName)) ∈ lw_all := lw_g (lw_at lw_m5 74 rfl) rfl
theorem q1122 : (Jvm.Cond.methodLink "QueryHarborLaw" (147 : Nat) ({ cls := "QueryHarborLaw", name := "forbid", desc := "(LQueryHarbor;IIZ[J)I" } : Jvm.MethodName)) ∈ lw_all := lw_g (lw_at lw_m5 78 rfl) rfl
theorem q1123 : (Jvm.Cond.static ({ cls := "QueryHarborLaw", name := "forbid", desc := "(LQueryHarbor;IIZ[J)I" } : Jvm.MethodName)) ∈ lw_all := lw_g (lw_at lw_m5 79 rfl) rfl
theorem q1124 : (Jvm.Cond.codeWith ({ cls := "QueryHarborLaw", name := "forbid", desc := "(LQueryHarbor;IIZ[J)I" } : Jvm.MethodName) method_12_code (6 : Nat) (Option.some Jvm.ClassFile.FieldType.int) [((0 : Nat), (19 : Nat), (22 : Nat), (13 : Nat))]) ∈ lw_all := lw_g (lw_at lw_m5 80 rfl) rfl
theorem q1125 : (Jvm.Cond.methodLink "QueryHarborLaw" (48 : Nat) ({ cls := "QueryHarbor", name := "forbid", desc := "(IIZ)Z" } : Jvm.MethodName)) ∈ lw_all := lw_g (lw_at lw_m5 81 rfl) rfl
theorem q1129 : (Jvm.Cond.methodLink "QueryHarborLaw" (150 : Nat) ({ cls := "QueryHarborLaw", name := "pass", desc := "(LQueryHarbor;I[J)I" } : Jvm.MethodName)) ∈ lw_all := lw_g (lw_at lw_m5 85 rfl) rfl
theorem q1130 : (Jvm.Cond.static ({ cls := "QueryHarborLaw", name := "pass", desc := "(LQueryHarbor;I[J)I" } : Jvm.MethodName)) ∈ lw_all := lw_g (lw_at lw_m5 86 rfl) rfl
theorem q1131 : (Jvm.Cond.codeWith ({ cls := "QueryHarborLaw", name := "pass", desc := "(LQueryHarbor;I[J)I" } : Jvm.MethodName) method_13_code (4 : Nat) (Option.some Jvm.ClassFile.FieldType.int) [((0 : Nat), (9 : Nat), (12 : Nat), (15 : Nat))]) ∈ lw_all := lw_g (lw_at lw_m5 87 rfl) rfl
theorem q1132 : (Jvm.Cond.methodLink "QueryHarborLaw" (52 : Nat) ({ cls := "QueryHarbor", name := "pass", desc := "(I)I" } : Jvm.MethodName)) ∈ lw_all := lw_g (lw_at lw_m5 88 rfl) rfl
theorem q1136 : (Jvm.Cond.methodLink "QueryHarborLaw" (157 : Nat) ({ cls := "QueryHarborLaw", name := "seat", desc := "(LQueryHarbor;I[J)I" } : Jvm.MethodName)) ∈ lw_all := lw_g (lw_at lw_m5 92 rfl) rfl
theorem q1137 : (Jvm.Cond.static ({ cls := "QueryHarborLaw", name := "seat", desc := "(LQueryHarbor;I[J)I" } : Jvm.MethodName)) ∈ lw_all := lw_g (lw_at lw_m5 93 rfl) rfl
theorem q1138 : (Jvm.Cond.codeWith ({ cls := "QueryHarborLaw", name := "seat", desc := "(LQueryHarbor;I[J)I" } : Jvm.MethodName) method_14_code (4 : Nat) (Option.some Jvm.ClassFile.FieldType.int) [((0 : Nat), (9 : Nat), (12 : Nat), (13 : Nat)), ((0 : Nat), (9 : Nat), (15 : Nat), (17 : Nat))]) ∈ lw_all := lw_g (lw_at lw_m5 94 rfl) rfl
theorem q1139 : (Jvm.Cond.methodLink "QueryHarborLaw" (55 : Nat) ({ cls := "QueryHarbor", name := "seat", desc := "(I)I" } : Jvm.MethodName)) ∈ lw_all := lw_g (lw_at lw_m5 95 rfl) rfl
theorem q1143 : (Jvm.Cond.methodLink "QueryHarborLaw" (160 : Nat) ({ cls := "QueryHarborLaw", name := "link", desc := "(LQueryHarbor;IIII[J)I" } : Jvm.MethodName)) ∈ lw_all := lw_g (lw_at lw_m5 99 rfl) rfl
theorem q1144 : (Jvm.Cond.static ({ cls := "QueryHarborLaw", name := "link", desc := "(LQueryHarbor;IIII[J)I" } : Jvm.MethodName)) ∈ lw_all := lw_g (lw_at lw_m5 100 rfl) rfl
theorem q1145 : (Jvm.Cond.codeWith ({ cls := "QueryHarborLaw", name := "link", desc := "(LQueryHarbor;IIII[J)I" } : Jvm.MethodName) method_15_code (7 : Nat) (Option.some Jvm.ClassFile.FieldType.int) [((0 : Nat), (14 : Nat), (17 : Nat), (13 : Nat)), ((0 : Nat), (14 : Nat), (21 : Nat), (15 : Nat)), ((0 : Nat), (14 : Nat), (25 : Nat), (17 : Nat))]) ∈ lw_all := lw_g (lw_at lw_m5 101 rfl) rfl
theorem q1146 : (Jvm.Cond.methodLink "QueryHarborLaw" (58 : Nat) ({ cls := "QueryHarbor", name := "link", desc := "(IIII)I" } : Jvm.MethodName)) ∈ lw_all := lw_g (lw_at lw_m5 102 rfl) rfl
theorem q1184 : (Jvm.Cond.methodLink "QueryHarborLaw" (163 : Nat) ({ cls := "QueryHarborLaw", name := "where", desc := "(LQueryHarbor;IIII[J)I" } : Jvm.MethodName)) ∈ lw_all := lw_g (lw_at lw_m5 140 rfl) rfl
theorem q1185 : (Jvm.Cond.static ({ cls := "QueryHarborLaw", name := "where", desc := "(LQueryHarbor;IIII[J)I" } : Jvm.MethodName)) ∈ lw_all := lw_g (lw_at lw_m5 141 rfl) rfl
theorem q1186 : (Jvm.Cond.codeWith ({ cls := "QueryHarborLaw", name := "where", desc := "(LQueryHarbor;IIII[J)I" } : Jvm.MethodName) method_16_code (7 : Nat) (Option.some Jvm.ClassFile.FieldType.int) [((0 : Nat), (14 : Nat), (17 : Nat), (13 : Nat)), ((0 : Nat), (14 : Nat), (21 : Nat), (15 : Nat)), ((0 : Nat), (14 : Nat), (25 : Nat), (17 : Nat))]) ∈ lw_all := lw_g (lw_at lw_m5 142 rfl) rfl
theorem q1187 : (Jvm.Cond.methodLink "QueryHarborLaw" (61 : Nat) ({ cls := "QueryHarbor", name := "where", desc := "(IIII)I" } : Jvm.MethodName)) ∈ lw_all := lw_g (lw_at lw_m5 143 rfl) rfl
theorem q1214 : (Jvm.Cond.methodLink "QueryHarborLaw" (166 : Nat) ({ cls := "QueryHarborLaw", name := "out", desc := "(LQueryHarbor;II[J)I" } : Jvm.MethodName)) ∈ lw_all := lw_g (lw_at lw_m5 170 rfl) rfl
theorem q1215 : (Jvm.Cond.static ({ cls := "QueryHarborLaw", name := "out", desc := "(LQueryHarbor;II[J)I" } : Jvm.MethodName)) ∈ lw_all := lw_g (lw_at lw_m5 171 rfl) rfl
theorem q1216 : (Jvm.Cond.codeWith ({ cls := "QueryHarborLaw", name := "out", desc := "(LQueryHarbor;II[J)I" } : Jvm.MethodName) method_17_code (5 : Nat) (Option.some Jvm.ClassFile.FieldType.int) [((0 : Nat), (10 : Nat), (13 : Nat), (13 : Nat)), ((0 : Nat), (10 : Nat), (17 : Nat), (17 : Nat))]) ∈ lw_all := lw_g (lw_at lw_m5 172 rfl) rfl
theorem q1217 : (Jvm.Cond.methodLink "QueryHarborLaw" (64 : Nat) ({ cls := "QueryHarbor", name := "out", desc := "(II)I" } : Jvm.MethodName)) ∈ lw_all := lw_g (lw_at lw_m5 173 rfl) rfl
theorem q1236 : (Jvm.Cond.methodLink "QueryHarborLaw" (169 : Nat) ({ cls := "QueryHarborLaw", name := "shape", desc := "(LQueryHarbor;IZ)I" } : Jvm.MethodName)) ∈ lw_all := lw_g (lw_at lw_m5 192 rfl) rfl
theorem q1237 : (Jvm.Cond.static ({ cls := "QueryHarborLaw", name := "shape", desc := "(LQueryHarbor;IZ)I" } : Jvm.MethodName)) ∈ lw_all := lw_g (lw_at lw_m5 193 rfl) rfl
theorem q1238 : (Jvm.Cond.codeWith ({ cls := "QueryHarborLaw", name := "shape", desc := "(LQueryHarbor;IZ)I" } : Jvm.MethodName) method_18_code (4 : Nat) (Option.some Jvm.ClassFile.FieldType.int) [((0 : Nat), (6 : Nat), (9 : Nat), (15 : Nat))]) ∈ lw_all := lw_g (lw_at lw_m5 194 rfl) rfl
theorem q1239 : (Jvm.Cond.methodLink "QueryHarborLaw" (67 : Nat) ({ cls := "QueryHarbor", name := "shape", desc := "(IZ)V" } : Jvm.MethodName)) ∈ lw_all := lw_g (lw_at lw_m5 195 rfl) rfl
theorem q1243 : (Jvm.Cond.methodLink "QueryHarborLaw" (177 : Nat) ({ cls := "QueryHarborLaw", name := "ask", desc := "(LQueryHarbor;II[J)I" } : Jvm.MethodName)) ∈ lw_all := lw_g (lw_at lw_m5 199 rfl) rfl
theorem q1244 : (Jvm.Cond.static ({ cls := "QueryHarborLaw", name := "ask", desc := "(LQueryHarbor;II[J)I" } : Jvm.MethodName)) ∈ lw_all := lw_g (lw_at lw_m5 200 rfl) rfl
theorem q1245 : (Jvm.Cond.codeWith ({ cls := "QueryHarborLaw", name := "ask", desc := "(LQueryHarbor;II[J)I" } : Jvm.MethodName) method_19_code (5 : Nat) (Option.some Jvm.ClassFile.FieldType.int) [((0 : Nat), (10 : Nat), (13 : Nat), (15 : Nat)), ((0 : Nat), (10 : Nat), (17 : Nat), (17 : Nat))]) ∈ lw_all := lw_g (lw_at lw_m5 201 rfl) rfl
theorem q1246 : (Jvm.Cond.methodLink "QueryHarborLaw" (71 : Nat) ({ cls := "QueryHarbor", name := "ask", desc := "(II)I" } : Jvm.MethodName)) ∈ lw_all := lw_g (lw_at lw_m5 202 rfl) rfl
theorem q1553 : (Jvm.Cond.methodLink "QueryHarborLaw" (184 : Nat) ({ cls := "QueryHarborLaw", name := "answer", desc := "(LQueryHarbor;II[J)I" } : Jvm.MethodName)) ∈ lw_all := lw_g (lw_at lw_m7 29 rfl) rfl
theorem q1554 : (Jvm.Cond.static ({ cls := "QueryHarborLaw", name := "answer", desc := "(LQueryHarbor;II[J)I" } : Jvm.MethodName)) ∈ lw_all := lw_g (lw_at lw_m7 30 rfl) rfl
theorem q1555 : (Jvm.Cond.codeWith ({ cls := "QueryHarborLaw", name := "answer", desc := "(LQueryHarbor;II[J)I" } : Jvm.MethodName) method_20_code (5 : Nat) (Option.some Jvm.ClassFile.FieldType.int) [((0 : Nat), (10 : Nat), (13 : Nat), (13 : Nat))]) ∈ lw_all := lw_g (lw_at lw_m7 31 rfl) rfl
theorem q1556 : (Jvm.Cond.methodLink "QueryHarborLaw" (74 : Nat) ({ cls := "QueryHarbor", name := "answer", desc := "(II)I" } : Jvm.MethodName)) ∈ lw_all := lw_g (lw_at lw_m7 32 rfl) rfl
theorem q1564 : (Jvm.Cond.methodLink "QueryHarborLaw" (207 : Nat) ({ cls := "QueryHarborLaw", name := "taken", desc := "(LQueryHarbor;I[J)I" } : Jvm.MethodName)) ∈ lw_all := lw_g (lw_at lw_m7 40 rfl) rfl
theorem q1565 : (Jvm.Cond.static ({ cls := "QueryHarborLaw", name := "taken", desc := "(LQueryHarbor;I[J)I" } : Jvm.MethodName)) ∈ lw_all := lw_g (lw_at lw_m7 41 rfl) rfl
theorem q1566 : (Jvm.Cond.codeWith ({ cls := "QueryHarborLaw", name := "taken", desc := "(LQueryHarbor;I[J)I" } : Jvm.MethodName) method_21_code (4 : Nat) (Option.some Jvm.ClassFile.FieldType.int) [((0 : Nat), (9 : Nat), (12 : Nat), (13 : Nat))]) ∈ lw_all := lw_g (lw_at lw_m7 42 rfl) rfl
theorem q1567 : (Jvm.Cond.methodLink "QueryHarborLaw" (77 : Nat) ({ cls := "QueryHarbor", name := "taken", desc := "(I)I" } : Jvm.MethodName)) ∈ lw_all := lw_g (lw_at lw_m7 43 rfl) rfl
theorem q1571 : (Jvm.Cond.methodLink "QueryHarborLaw" (210 : Nat) ({ cls := "QueryHarborLaw", name := "size", desc := "(LQueryHarbor;I[J)I" } : Jvm.MethodName)) ∈ lw_all := lw_g (lw_at lw_m7 47 rfl) rfl
theorem q1572 : (Jvm.Cond.static ({ cls := "QueryHarborLaw", name := "size", desc := "(LQueryHarbor;I[J)I" } : Jvm.MethodName)) ∈ lw_all := lw_g (lw_at lw_m7 48 rfl) rfl
theorem q1573 : (Jvm.Cond.codeWith ({ cls := "QueryHarborLaw", name := "size", desc := "(LQueryHarbor;I[J)I" } : Jvm.MethodName) method_22_code (4 : Nat) (Option.some Jvm.ClassFile.FieldType.int) [((0 : Nat), (9 : Nat), (12 : Nat), (13 : Nat))]) ∈ lw_all := lw_g (lw_at lw_m7 49 rfl) rfl
theorem q1574 : (Jvm.Cond.methodLink "QueryHarborLaw" (80 : Nat) ({ cls := "QueryHarbor", name := "size", desc := "(I)I" } : Jvm.MethodName)) ∈ lw_all := lw_g (lw_at lw_m7 50 rfl) rfl
theorem q1578 : (Jvm.Cond.methodLink "QueryHarborLaw" (217 : Nat) ({ cls := "QueryHarborLaw", name := "answersAnew", desc := "(LQueryHarbor;[J)I" } : Jvm.MethodName)) ∈ lw_all := lw_g (lw_at lw_m7 54 rfl) rfl
theorem q1579 : (Jvm.Cond.static ({ cls := "QueryHarborLaw", name := "answersAnew", desc := "(LQueryHarbor;[J)I" } : Jvm.MethodName)) ∈ lw_all := lw_g (lw_at lw_m7 55 rfl) rfl
theorem q1580 : (Jvm.Cond.codeWith ({ cls := "QueryHarborLaw", name := "answersAnew", desc := "(LQueryHarbor;[J)I" } : Jvm.MethodName) method_23_code (3 : Nat) (Option.some Jvm.ClassFile.FieldType.int) [((0 : Nat), (8 : Nat), (11 : Nat), (17 : Nat))]) ∈ lw_all := lw_g (lw_at lw_m7 56 rfl) rfl
theorem q1581 : (Jvm.Cond.methodLink "QueryHarborLaw" (83 : Nat) ({ cls := "QueryHarbor", name := "answersAnew", desc := "()I" } : Jvm.MethodName)) ∈ lw_all := lw_g (lw_at lw_m7 57 rfl) rfl
theorem q1589 : (Jvm.Cond.methodLink "QueryHarborLaw" (221 : Nat) ({ cls := "QueryHarborLaw", name := "answerAnew", desc := "(LQueryHarbor;II[J)I" } : Jvm.MethodName)) ∈ lw_all := lw_g (lw_at lw_m7 65 rfl) rfl
theorem q1590 : (Jvm.Cond.static ({ cls := "QueryHarborLaw", name := "answerAnew", desc := "(LQueryHarbor;II[J)I" } : Jvm.MethodName)) ∈ lw_all := lw_g (lw_at lw_m7 66 rfl) rfl
theorem q1591 : (Jvm.Cond.codeWith ({ cls := "QueryHarborLaw", name := "answerAnew", desc := "(LQueryHarbor;II[J)I" } : Jvm.MethodName) method_24_code (5 : Nat) (Option.some Jvm.ClassFile.FieldType.int) [((0 : Nat), (10 : Nat), (13 : Nat), (17 : Nat)), ((0 : Nat), (10 : Nat), (17 : Nat), (13 : Nat))]) ∈ lw_all := lw_g (lw_at lw_m7 67 rfl) rfl
theorem q1592 : (Jvm.Cond.methodLink "QueryHarborLaw" (87 : Nat) ({ cls := "QueryHarbor", name := "answerAnew", desc := "(II)I" } : Jvm.MethodName)) ∈ lw_all := lw_g (lw_at lw_m7 68 rfl) rfl
theorem q1596 : (Jvm.Cond.methodLink "QueryHarborLaw" (224 : Nat) ({ cls := "QueryHarborLaw", name := "step", desc := "(LQueryHarbor;IIIIII[J)I" } : Jvm.MethodName)) ∈ lw_all := lw_g (lw_at lw_m7 72 rfl) rfl
theorem q1597 : (Jvm.Cond.static ({ cls := "QueryHarborLaw", name := "step", desc := "(LQueryHarbor;IIIIII[J)I" } : Jvm.MethodName)) ∈ lw_all := lw_g (lw_at lw_m7 73 rfl) rfl
theorem q1598 : (Jvm.Cond.codeWith ({ cls := "QueryHarborLaw", name := "step", desc := "(LQueryHarbor;IIIIII[J)I" } : Jvm.MethodName) method_25_code (9 : Nat) (Option.some Jvm.ClassFile.FieldType.int) [((0 : Nat), (18 : Nat), (21 : Nat), (13 : Nat)), ((0 : Nat), (18 : Nat), (25 : Nat), (15 : Nat)), ((0 : Nat), (18 : Nat), (29 : Nat), (17 : Nat))]) ∈ lw_all := lw_g (lw_at lw_m7 74 rfl) rfl
theorem q1599 : (Jvm.Cond.methodLink "QueryHarborLaw" (90 : Nat) ({ cls := "QueryHarbor", name := "step", desc := "(IIIIII)I" } : Jvm.MethodName)) ∈ lw_all := lw_g (lw_at lw_m7 75 rfl) rfl
theorem q1603 : (Jvm.Cond.methodLink "QueryHarborLaw" (228 : Nat) ({ cls := "QueryHarborLaw", name := "run", desc := "(LQueryHarbor;[J)I" } : Jvm.MethodName)) ∈ lw_all := lw_g (lw_at lw_m7 79 rfl) rfl
theorem q1604 : (Jvm.Cond.static ({ cls := "QueryHarborLaw", name := "run", desc := "(LQueryHarbor;[J)I" } : Jvm.MethodName)) ∈ lw_all := lw_g (lw_at lw_m7 80 rfl) rfl
theorem q1605 : (Jvm.Cond.codeWith ({ cls := "QueryHarborLaw", name := "run", desc := "(LQueryHarbor;[J)I" } : Jvm.MethodName) method_26_code (3 : Nat) (Option.some Jvm.ClassFile.FieldType.int) [((0 : Nat), (8 : Nat), (11 : Nat), (17 : Nat))]) ∈ lw_all := lw_g (lw_at lw_m7 81 rfl) rfl
theorem q1606 : (Jvm.Cond.methodLink "QueryHarborLaw" (94 : Nat) ({ cls := "QueryHarbor", name := "run", desc := "()I" } : Jvm.MethodName)) ∈ lw_all := lw_g (lw_at lw_m7 82 rfl) rfl
theorem q1651 : (Jvm.Cond.classLink "QueryHarborLaw" (98 : Nat) "QueryHarborModel") ∈ lw_all := lw_g (lw_at lw_m7 127 rfl) rfl
theorem q1653 : (Jvm.Cond.methodLink "QueryHarborLaw" (100 : Nat) ({ cls := "QueryHarborModel", name := "<init>", desc := "()V" } : Jvm.MethodName)) ∈ lw_all := lw_g (lw_at lw_m7 129 rfl) rfl
theorem q1940 : (Jvm.Cond.methodLink "QueryHarborLaw" (107 : Nat) ({ cls := "QueryHarborModel", name := "thrown", desc := "()I" } : Jvm.MethodName)) ∈ lw_all := lw_g (lw_at lw_m8 176 rfl) rfl
theorem q1944 : (Jvm.Cond.methodLink "QueryHarborLaw" (106 : Nat) ({ cls := "QueryHarborModel", name := "add", desc := "(IIIII)I" } : Jvm.MethodName)) ∈ lw_all := lw_g (lw_at lw_m8 180 rfl) rfl
theorem q1998 : (Jvm.Cond.methodLink "QueryHarborLaw" (113 : Nat) ({ cls := "QueryHarborModel", name := "change", desc := "(IIII)I" } : Jvm.MethodName)) ∈ lw_all := lw_g (lw_at lw_m8 234 rfl) rfl
theorem q2010 : (Jvm.Cond.methodLink "QueryHarborLaw" (117 : Nat) ({ cls := "QueryHarborModel", name := "remove", desc := "(II)I" } : Jvm.MethodName)) ∈ lw_all := lw_g (lw_at lw_m9 6 rfl) rfl
theorem q2018 : (Jvm.Cond.methodLink "QueryHarborLaw" (121 : Nat) ({ cls := "QueryHarborModel", name := "count", desc := "(I)I" } : Jvm.MethodName)) ∈ lw_all := lw_g (lw_at lw_m9 14 rfl) rfl
theorem q2022 : (Jvm.Cond.methodLink "QueryHarborLaw" (125 : Nat) ({ cls := "QueryHarborModel", name := "cell", desc := "(III)I" } : Jvm.MethodName)) ∈ lw_all := lw_g (lw_at lw_m9 18 rfl) rfl
theorem q2026 : (Jvm.Cond.methodLink "QueryHarborLaw" (129 : Nat) ({ cls := "QueryHarborModel", name := "losses", desc := "()I" } : Jvm.MethodName)) ∈ lw_all := lw_g (lw_at lw_m9 22 rfl) rfl
theorem q2030 : (Jvm.Cond.methodLink "QueryHarborLaw" (133 : Nat) ({ cls := "QueryHarborModel", name := "moment", desc := "()I" } : Jvm.MethodName)) ∈ lw_all := lw_g (lw_at lw_m9 26 rfl) rfl
theorem q2034 : (Jvm.Cond.methodLink "QueryHarborLaw" (136 : Nat) ({ cls := "QueryHarborModel", name := "setPace", desc := "(III)I" } : Jvm.MethodName)) ∈ lw_all := lw_g (lw_at lw_m9 30 rfl) rfl
theorem q2041 : (Jvm.Cond.methodLink "QueryHarborLaw" (139 : Nat) ({ cls := "QueryHarborModel", name := "setBounds", desc := "(III)I" } : Jvm.MethodName)) ∈ lw_all := lw_g (lw_at lw_m9 37 rfl) rfl
theorem q2045 : (Jvm.Cond.methodLink "QueryHarborLaw" (142 : Nat) ({ cls := "QueryHarborModel", name := "setLease", desc := "(II)I" } : Jvm.MethodName)) ∈ lw_all := lw_g (lw_at lw_m9 41 rfl) rfl
theorem q2049 : (Jvm.Cond.methodLink "QueryHarborLaw" (146 : Nat) ({ cls := "QueryHarborModel", name := "fail", desc := "(IIZ)I" } : Jvm.MethodName)) ∈ lw_all := lw_g (lw_at lw_m9 45 rfl) rfl
theorem q2053 : (Jvm.Cond.methodLink "QueryHarborLaw" (149 : Nat) ({ cls := "QueryHarborModel", name := "forbid", desc := "(IIZ)Z" } : Jvm.MethodName)) ∈ lw_all := lw_g (lw_at lw_m9 49 rfl) rfl
theorem q2061 : (Jvm.Cond.methodLink "QueryHarborLaw" (152 : Nat) ({ cls := "QueryHarborModel", name := "pass", desc := "(I)I" } : Jvm.MethodName)) ∈ lw_all := lw_g (lw_at lw_m9 57 rfl) rfl
theorem q2069 : (Jvm.Cond.methodLink "QueryHarborLaw" (156 : Nat) ({ cls := "QueryHarborModel", name := "now", desc := "()I" } : Jvm.MethodName)) ∈ lw_all := lw_g (lw_at lw_m9 65 rfl) rfl
theorem q2073 : (Jvm.Cond.methodLink "QueryHarborLaw" (159 : Nat) ({ cls := "QueryHarborModel", name := "seat", desc := "(I)I" } : Jvm.MethodName)) ∈ lw_all := lw_g (lw_at lw_m9 69 rfl) rfl
theorem q2077 : (Jvm.Cond.methodLink "QueryHarborLaw" (162 : Nat) ({ cls := "QueryHarborModel", name := "link", desc := "(IIII)I" } : Jvm.MethodName)) ∈ lw_all := lw_g (lw_at lw_m9 73 rfl) rfl
theorem q2089 : (Jvm.Cond.methodLink "QueryHarborLaw" (165 : Nat) ({ cls := "QueryHarborModel", name := "where", desc := "(IIII)I" } : Jvm.MethodName)) ∈ lw_all := lw_g (lw_at lw_m9 85 rfl) rfl
theorem q2093 : (Jvm.Cond.methodLink "QueryHarborLaw" (168 : Nat) ({ cls := "QueryHarborModel", name := "out", desc := "(II)I" } : Jvm.MethodName)) ∈ lw_all := lw_g (lw_at lw_m9 89 rfl) rfl
theorem q2097 : (Jvm.Cond.methodLink "QueryHarborLaw" (172 : Nat) ({ cls := "QueryHarborModel", name := "shape", desc := "(IZ)V" } : Jvm.MethodName)) ∈ lw_all := lw_g (lw_at lw_m9 93 rfl) rfl
theorem q2101 : (Jvm.Cond.methodLink "QueryHarborLaw" (176 : Nat) ({ cls := "QueryHarborModel", name := "clear", desc := "()I" } : Jvm.MethodName)) ∈ lw_all := lw_g (lw_at lw_m9 97 rfl) rfl
theorem q2105 : (Jvm.Cond.methodLink "QueryHarborLaw" (179 : Nat) ({ cls := "QueryHarborModel", name := "ask", desc := "(II)I" } : Jvm.MethodName)) ∈ lw_all := lw_g (lw_at lw_m9 101 rfl) rfl
theorem q2249 : (Jvm.Cond.methodLink "QueryHarborLaw" (183 : Nat) ({ cls := "QueryHarborModel", name := "answers", desc := "()I" } : Jvm.MethodName)) ∈ lw_all := lw_g (lw_at lw_m10 5 rfl) rfl
theorem q2253 : (Jvm.Cond.methodLink "QueryHarborLaw" (186 : Nat) ({ cls := "QueryHarborModel", name := "answer", desc := "(II)I" } : Jvm.MethodName)) ∈ lw_all := lw_g (lw_at lw_m10 9 rfl) rfl
theorem q2257 : (Jvm.Cond.methodLink "QueryHarborLaw" (190 : Nat) ({ cls := "QueryHarborModel", name := "missing", desc := "()I" } : Jvm.MethodName)) ∈ lw_all := lw_g (lw_at lw_m10 13 rfl) rfl
theorem q2261 : (Jvm.Cond.methodLink "QueryHarborLaw" (194 : Nat) ({ cls := "QueryHarborModel", name := "claims", desc := "()I" } : Jvm.MethodName)) ∈ lw_all := lw_g (lw_at lw_m10 17 rfl) rfl
theorem q2265 : (Jvm.Cond.methodLink "QueryHarborLaw" (198 : Nat) ({ cls := "QueryHarborModel", name := "cost", desc := "()I" } : Jvm.MethodName)) ∈ lw_all := lw_g (lw_at lw_m10 21 rfl) rfl
theorem q2269 : (Jvm.Cond.methodLink "QueryHarborLaw" (202 : Nat) ({ cls := "QueryHarborModel", name := "attempts", desc := "()I" } : Jvm.MethodName)) ∈ lw_all := lw_g (lw_at lw_m10 25 rfl) rfl
theorem q2273 : (Jvm.Cond.methodLink "QueryHarborLaw" (206 : Nat) ({ cls := "QueryHarborModel", name := "shipped", desc := "()I" } : Jvm.MethodName)) ∈ lw_all := lw_g (lw_at lw_m10 29 rfl) rfl
theorem q2277 : (Jvm.Cond.methodLink "QueryHarborLaw" (209 : Nat) ({ cls := "QueryHarborModel", name := "taken", desc := "(I)I" } : Jvm.MethodName)) ∈ lw_all := lw_g (lw_at lw_m10 33 rfl) rfl
theorem q2281 : (Jvm.Cond.methodLink "QueryHarborLaw" (212 : Nat) ({ cls := "QueryHarborModel", name := "size", desc := "(I)I" } : Jvm.MethodName)) ∈ lw_all := lw_g (lw_at lw_m10 37 rfl) rfl
theorem q2285 : (Jvm.Cond.methodLink "QueryHarborLaw" (216 : Nat) ({ cls := "QueryHarborModel", name := "entries", desc := "()I" } : Jvm.MethodName)) ∈ lw_all := lw_g (lw_at lw_m10 41 rfl) rfl
theorem q2289 : (Jvm.Cond.methodLink "QueryHarborLaw" (220 : Nat) ({ cls := "QueryHarborModel", name := "answersAnew", desc := "()I" } : Jvm.MethodName)) ∈ lw_all := lw_g (lw_at lw_m10 45 rfl) rfl
theorem q2293 : (Jvm.Cond.methodLink "QueryHarborLaw" (223 : Nat) ({ cls := "QueryHarborModel", name := "answerAnew", desc := "(II)I" } : Jvm.MethodName)) ∈ lw_all := lw_g (lw_at lw_m10 49 rfl) rfl
theorem q2297 : (Jvm.Cond.methodLink "QueryHarborLaw" (227 : Nat) ({ cls := "QueryHarborModel", name := "step", desc := "(IIIIII)I" } : Jvm.MethodName)) ∈ lw_all := lw_g (lw_at lw_m10 53 rfl) rfl
theorem q2301 : (Jvm.Cond.methodLink "QueryHarborLaw" (230 : Nat) ({ cls := "QueryHarborModel", name := "run", desc := "()I" } : Jvm.MethodName)) ∈ lw_all := lw_g (lw_at lw_m10 57 rfl) rfl
/-! the law's own entry -/
set_option maxRecDepth 100000
abbrev cL_law : ByteArray := code
def dkwL_law_84 : List UInt8 := [45, 3, 47, 21, 6, 133, 148, 153, 0, 5, 3, 172, 167, 0, 3, 132, 4, 7, 167, 247, 208, 4, 172]
abbrev dktL_law_84 : List UInt8 := dkwL_law_84 ++ []
def dkwL_law_83 : List UInt8 := [54, 5, 44, 182, 0, 230, 54, 6, 44, 182, 0, 107, 21, 5, 159, 0, 5, 3, 172, 21, 5, 154, 0, 15]
abbrev dktL_law_83 : List UInt8 := dkwL_law_83 ++ dktL_law_84
def dkwL_law_82 : List UInt8 := [154, 0, 15, 45, 3, 47, 21, 6, 133, 148, 153, 0, 5, 3, 172, 167, 0, 47, 43, 45, 184, 0, 228]
abbrev dktL_law_82 : List UInt8 := dkwL_law_82 ++ dktL_law_83
def dkwL_law_81 : List UInt8 := [16, 6, 96, 46, 182, 0, 227, 54, 6, 44, 182, 0, 107, 21, 5, 159, 0, 5, 3, 172, 21, 5]
abbrev dktL_law_81 : List UInt8 := dkwL_law_81 ++ dktL_law_82
def dkwL_law_80 : List UInt8 := [5, 96, 46, 42, 21, 4, 6, 96, 46, 42, 21, 4, 7, 96, 46, 42, 21, 4, 8, 96, 46, 42, 21, 4]
abbrev dktL_law_80 : List UInt8 := dkwL_law_80 ++ dktL_law_81
def dkwL_law_79 : List UInt8 := [46, 42, 21, 4, 16, 6, 96, 46, 45, 184, 0, 224, 54, 5, 44, 42, 21, 4, 4, 96, 46, 42, 21, 4]
abbrev dktL_law_79 : List UInt8 := dkwL_law_79 ++ dktL_law_80
def dkwL_law_78 : List UInt8 := [46, 42, 21, 4, 5, 96, 46, 42, 21, 4, 6, 96, 46, 42, 21, 4, 7, 96, 46, 42, 21, 4, 8, 96]
abbrev dktL_law_78 : List UInt8 := dkwL_law_78 ++ dktL_law_79
def dkwL_law_77 : List UInt8 := [154, 0, 15, 45, 3, 47, 21, 6, 133, 148, 153, 0, 5, 3, 172, 167, 0, 165, 43, 42, 21, 4, 4, 96]
abbrev dktL_law_77 : List UInt8 := dkwL_law_77 ++ dktL_law_78
def dkwL_law_76 : List UInt8 := [42, 21, 4, 5, 96, 46, 182, 0, 223, 54, 6, 44, 182, 0, 107, 21, 5, 159, 0, 5, 3, 172, 21, 5]
abbrev dktL_law_76 : List UInt8 := dkwL_law_76 ++ dktL_law_77
def dkwL_law_75 : List UInt8 := [21, 4, 4, 96, 46, 42, 21, 4, 5, 96, 46, 45, 184, 0, 221, 54, 5, 44, 42, 21, 4, 4, 96, 46]
abbrev dktL_law_75 : List UInt8 := dkwL_law_75 ++ dktL_law_76
def dkwL_law_74 : List UInt8 := [172, 21, 5, 154, 0, 15, 45, 3, 47, 21, 6, 133, 148, 153, 0, 5, 3, 172, 167, 0, 233, 43, 42]
abbrev dktL_law_74 : List UInt8 := dkwL_law_74 ++ dktL_law_75
def dkwL_law_73 : List UInt8 := [172, 43, 45, 184, 0, 217, 54, 5, 44, 182, 0, 220, 54, 6, 44, 182, 0, 107, 21, 5, 159, 0, 5, 3]
abbrev dktL_law_73 : List UInt8 := dkwL_law_73 ++ dktL_law_74
def dkwL_law_72 : List UInt8 := [21, 6, 133, 148, 153, 0, 5, 3, 172, 167, 1, 34, 43, 182, 0, 213, 44, 182, 0, 216, 159, 1, 23, 3]
abbrev dktL_law_72 : List UInt8 := dkwL_law_72 ++ dktL_law_73
def dkwL_law_71 : List UInt8 := [182, 0, 212, 54, 6, 44, 182, 0, 107, 21, 5, 159, 0, 5, 3, 172, 21, 5, 154, 0, 15, 45, 3, 47]
abbrev dktL_law_71 : List UInt8 := dkwL_law_71 ++ dktL_law_72
def dkwL_law_70 : List UInt8 := [167, 1, 90, 43, 42, 21, 4, 4, 96, 46, 45, 184, 0, 210, 54, 5, 44, 42, 21, 4, 4, 96, 46]
abbrev dktL_law_70 : List UInt8 := dkwL_law_70 ++ dktL_law_71
def dkwL_law_69 : List UInt8 := [21, 5, 159, 0, 5, 3, 172, 21, 5, 154, 0, 15, 45, 3, 47, 21, 6, 133, 148, 153, 0, 5, 3, 172]
abbrev dktL_law_69 : List UInt8 := dkwL_law_69 ++ dktL_law_70
def dkwL_law_68 : List UInt8 := [46, 45, 184, 0, 207, 54, 5, 44, 42, 21, 4, 4, 96, 46, 182, 0, 209, 54, 6, 44, 182, 0, 107]
abbrev dktL_law_68 : List UInt8 := dkwL_law_68 ++ dktL_law_69
def dkwL_law_67 : List UInt8 := [159, 1, 161, 3, 172, 43, 182, 0, 203, 44, 182, 0, 206, 159, 1, 148, 3, 172, 43, 42, 21, 4, 4, 96]
abbrev dktL_law_67 : List UInt8 := dkwL_law_67 ++ dktL_law_68
def dkwL_law_66 : List UInt8 := [172, 43, 182, 0, 195, 44, 182, 0, 198, 159, 1, 174, 3, 172, 43, 182, 0, 199, 44, 182, 0, 202]
abbrev dktL_law_66 : List UInt8 := dkwL_law_66 ++ dktL_law_67
def dkwL_law_65 : List UInt8 := [182, 0, 187, 44, 182, 0, 190, 159, 1, 200, 3, 172, 43, 182, 0, 191, 44, 182, 0, 194, 159, 1, 187, 3]
abbrev dktL_law_65 : List UInt8 := dkwL_law_65 ++ dktL_law_66
def dkwL_law_64 : List UInt8 := [172, 21, 5, 154, 0, 15, 45, 3, 47, 21, 6, 133, 148, 153, 0, 5, 3, 172, 167, 1, 211, 43]
abbrev dktL_law_64 : List UInt8 := dkwL_law_64 ++ dktL_law_65
def dkwL_law_63 : List UInt8 := [4, 96, 46, 42, 21, 4, 5, 96, 46, 182, 0, 186, 54, 6, 44, 182, 0, 107, 21, 5, 159, 0, 5, 3]
abbrev dktL_law_63 : List UInt8 := dkwL_law_63 ++ dktL_law_64
def dkwL_law_62 : List UInt8 := [172, 43, 42, 21, 4, 4, 96, 46, 42, 21, 4, 5, 96, 46, 45, 184, 0, 184, 54, 5, 44, 42, 21, 4]
abbrev dktL_law_62 : List UInt8 := dkwL_law_62 ++ dktL_law_63
def dkwL_law_61 : List UInt8 := [21, 6, 133, 148, 153, 0, 5, 3, 172, 167, 2, 36, 43, 182, 0, 180, 44, 182, 0, 183, 159, 2, 25, 3]
abbrev dktL_law_61 : List UInt8 := dkwL_law_61 ++ dktL_law_62
def dkwL_law_60 : List UInt8 := [182, 0, 179, 54, 6, 44, 182, 0, 107, 21, 5, 159, 0, 5, 3, 172, 21, 5, 154, 0, 15, 45, 3, 47]
abbrev dktL_law_60 : List UInt8 := dkwL_law_60 ++ dktL_law_61
def dkwL_law_59 : List UInt8 := [21, 4, 5, 96, 46, 45, 184, 0, 177, 54, 5, 44, 42, 21, 4, 4, 96, 46, 42, 21, 4, 5, 96, 46]
abbrev dktL_law_59 : List UInt8 := dkwL_law_59 ++ dktL_law_60
def dkwL_law_58 : List UInt8 := [167, 2, 117, 43, 182, 0, 173, 44, 182, 0, 176, 159, 2, 106, 3, 172, 43, 42, 21, 4, 4, 96, 46, 42]
abbrev dktL_law_58 : List UInt8 := dkwL_law_58 ++ dktL_law_59
def dkwL_law_57 : List UInt8 := [153, 0, 7, 4, 167, 0, 4, 3, 182, 0, 172, 44, 182, 0, 107, 21, 5, 159, 0, 5, 3, 172]
abbrev dktL_law_57 : List UInt8 := dkwL_law_57 ++ dktL_law_58
def dkwL_law_56 : List UInt8 := [4, 167, 0, 4, 3, 184, 0, 169, 54, 5, 44, 42, 21, 4, 4, 96, 46, 42, 21, 4, 5, 96, 46]
abbrev dktL_law_56 : List UInt8 := dkwL_law_56 ++ dktL_law_57
def dkwL_law_55 : List UInt8 := [153, 0, 5, 3, 172, 167, 2, 181, 43, 42, 21, 4, 4, 96, 46, 42, 21, 4, 5, 96, 46, 153, 0, 7]
abbrev dktL_law_55 : List UInt8 := dkwL_law_55 ++ dktL_law_56
def dkwL_law_54 : List UInt8 := [182, 0, 107, 21, 5, 159, 0, 5, 3, 172, 21, 5, 154, 0, 15, 45, 3, 47, 21, 6, 133, 148]
abbrev dktL_law_54 : List UInt8 := dkwL_law_54 ++ dktL_law_55
def dkwL_law_53 : List UInt8 := [184, 0, 166, 54, 5, 44, 42, 21, 4, 4, 96, 46, 42, 21, 4, 5, 96, 46, 182, 0, 168, 54, 6, 44]
abbrev dktL_law_53 : List UInt8 := dkwL_law_53 ++ dktL_law_54
def dkwL_law_52 : List UInt8 := [153, 0, 5, 3, 172, 167, 2, 249, 43, 42, 21, 4, 4, 96, 46, 42, 21, 4, 5, 96, 46, 45]
abbrev dktL_law_52 : List UInt8 := dkwL_law_52 ++ dktL_law_53
def dkwL_law_51 : List UInt8 := [182, 0, 107, 21, 5, 159, 0, 5, 3, 172, 21, 5, 154, 0, 15, 45, 3, 47, 21, 6, 133, 148]
abbrev dktL_law_51 : List UInt8 := dkwL_law_51 ++ dktL_law_52
def dkwL_law_50 : List UInt8 := [21, 4, 5, 96, 46, 42, 21, 4, 6, 96, 46, 42, 21, 4, 7, 96, 46, 182, 0, 165, 54, 6, 44]
abbrev dktL_law_50 : List UInt8 := dkwL_law_50 ++ dktL_law_51
def dkwL_law_49 : List UInt8 := [6, 96, 46, 42, 21, 4, 7, 96, 46, 45, 184, 0, 163, 54, 5, 44, 42, 21, 4, 4, 96, 46, 42]
abbrev dktL_law_49 : List UInt8 := dkwL_law_49 ++ dktL_law_50
def dkwL_law_48 : List UInt8 := [153, 0, 5, 3, 172, 167, 3, 85, 43, 42, 21, 4, 4, 96, 46, 42, 21, 4, 5, 96, 46, 42, 21, 4]
abbrev dktL_law_48 : List UInt8 := dkwL_law_48 ++ dktL_law_49
def dkwL_law_47 : List UInt8 := [182, 0, 107, 21, 5, 159, 0, 5, 3, 172, 21, 5, 154, 0, 15, 45, 3, 47, 21, 6, 133, 148]
abbrev dktL_law_47 : List UInt8 := dkwL_law_47 ++ dktL_law_48
def dkwL_law_46 : List UInt8 := [42, 21, 4, 5, 96, 46, 42, 21, 4, 6, 96, 46, 42, 21, 4, 7, 96, 46, 182, 0, 162, 54, 6, 44]
abbrev dktL_law_46 : List UInt8 := dkwL_law_46 ++ dktL_law_47
def dkwL_law_45 : List UInt8 := [21, 4, 6, 96, 46, 42, 21, 4, 7, 96, 46, 45, 184, 0, 160, 54, 5, 44, 42, 21, 4, 4, 96, 46]
abbrev dktL_law_45 : List UInt8 := dkwL_law_45 ++ dktL_law_46
def dkwL_law_44 : List UInt8 := [148, 153, 0, 5, 3, 172, 167, 3, 177, 43, 42, 21, 4, 4, 96, 46, 42, 21, 4, 5, 96, 46, 42]
abbrev dktL_law_44 : List UInt8 := dkwL_law_44 ++ dktL_law_45
def dkwL_law_43 : List UInt8 := [54, 6, 44, 182, 0, 107, 21, 5, 159, 0, 5, 3, 172, 21, 5, 154, 0, 15, 45, 3, 47, 21, 6, 133]
abbrev dktL_law_43 : List UInt8 := dkwL_law_43 ++ dktL_law_44
def dkwL_law_42 : List UInt8 := [172, 43, 42, 21, 4, 4, 96, 46, 45, 184, 0, 157, 54, 5, 44, 42, 21, 4, 4, 96, 46, 182, 0, 159]
abbrev dktL_law_42 : List UInt8 := dkwL_law_42 ++ dktL_law_43
def dkwL_law_41 : List UInt8 := [21, 6, 133, 148, 153, 0, 5, 3, 172, 167, 3, 246, 43, 182, 0, 153, 44, 182, 0, 156, 159, 3, 235, 3]
abbrev dktL_law_41 : List UInt8 := dkwL_law_41 ++ dktL_law_42
def dkwL_law_40 : List UInt8 := [182, 0, 152, 54, 6, 44, 182, 0, 107, 21, 5, 159, 0, 5, 3, 172, 21, 5, 154, 0, 15, 45, 3, 47]
abbrev dktL_law_40 : List UInt8 := dkwL_law_40 ++ dktL_law_41
def dkwL_law_39 : List UInt8 := [167, 4, 46, 43, 42, 21, 4, 4, 96, 46, 45, 184, 0, 150, 54, 5, 44, 42, 21, 4, 4, 96, 46]
abbrev dktL_law_39 : List UInt8 := dkwL_law_39 ++ dktL_law_40
def dkwL_law_38 : List UInt8 := [21, 5, 154, 0, 22, 45, 3, 47, 21, 6, 153, 0, 7, 10, 167, 0, 4, 9, 148, 153, 0, 5, 3, 172]
abbrev dktL_law_38 : List UInt8 := dkwL_law_38 ++ dktL_law_39
def dkwL_law_37 : List UInt8 := [153, 0, 7, 4, 167, 0, 4, 3, 182, 0, 149, 54, 6, 44, 182, 0, 107, 21, 5, 159, 0, 5, 3, 172]
abbrev dktL_law_37 : List UInt8 := dkwL_law_37 ++ dktL_law_38
def dkwL_law_36 : List UInt8 := [184, 0, 147, 54, 5, 44, 42, 21, 4, 4, 96, 46, 42, 21, 4, 5, 96, 46, 42, 21, 4, 6, 96, 46]
abbrev dktL_law_36 : List UInt8 := dkwL_law_36 ++ dktL_law_37
def dkwL_law_35 : List UInt8 := [4, 96, 46, 42, 21, 4, 5, 96, 46, 42, 21, 4, 6, 96, 46, 153, 0, 7, 4, 167, 0, 4, 3, 45]
abbrev dktL_law_35 : List UInt8 := dkwL_law_35 ++ dktL_law_36
def dkwL_law_34 : List UInt8 := [21, 5, 154, 0, 15, 45, 3, 47, 21, 6, 133, 148, 153, 0, 5, 3, 172, 167, 4, 149, 43, 42, 21, 4]
abbrev dktL_law_34 : List UInt8 := dkwL_law_34 ++ dktL_law_35
def dkwL_law_33 : List UInt8 := [153, 0, 7, 4, 167, 0, 4, 3, 182, 0, 146, 54, 6, 44, 182, 0, 107, 21, 5, 159, 0, 5, 3, 172]
abbrev dktL_law_33 : List UInt8 := dkwL_law_33 ++ dktL_law_34
def dkwL_law_32 : List UInt8 := [184, 0, 143, 54, 5, 44, 42, 21, 4, 4, 96, 46, 42, 21, 4, 5, 96, 46, 42, 21, 4, 6, 96, 46]
abbrev dktL_law_32 : List UInt8 := dkwL_law_32 ++ dktL_law_33
def dkwL_law_31 : List UInt8 := [46, 42, 21, 4, 5, 96, 46, 42, 21, 4, 6, 96, 46, 153, 0, 7, 4, 167, 0, 4, 3, 45]
abbrev dktL_law_31 : List UInt8 := dkwL_law_31 ++ dktL_law_32
def dkwL_law_30 : List UInt8 := [154, 0, 15, 45, 3, 47, 21, 6, 133, 148, 153, 0, 5, 3, 172, 167, 4, 245, 43, 42, 21, 4, 4, 96]
abbrev dktL_law_30 : List UInt8 := dkwL_law_30 ++ dktL_law_31
def dkwL_law_29 : List UInt8 := [42, 21, 4, 5, 96, 46, 182, 0, 142, 54, 6, 44, 182, 0, 107, 21, 5, 159, 0, 5, 3, 172, 21, 5]
abbrev dktL_law_29 : List UInt8 := dkwL_law_29 ++ dktL_law_30
def dkwL_law_28 : List UInt8 := [21, 4, 4, 96, 46, 42, 21, 4, 5, 96, 46, 45, 184, 0, 140, 54, 5, 44, 42, 21, 4, 4, 96, 46]
abbrev dktL_law_28 : List UInt8 := dkwL_law_28 ++ dktL_law_29
def dkwL_law_27 : List UInt8 := [172, 21, 5, 154, 0, 15, 45, 3, 47, 21, 6, 133, 148, 153, 0, 5, 3, 172, 167, 5, 57, 43, 42]
abbrev dktL_law_27 : List UInt8 := dkwL_law_27 ++ dktL_law_28
def dkwL_law_26 : List UInt8 := [5, 96, 46, 42, 21, 4, 6, 96, 46, 182, 0, 139, 54, 6, 44, 182, 0, 107, 21, 5, 159, 0, 5, 3]
abbrev dktL_law_26 : List UInt8 := dkwL_law_26 ++ dktL_law_27
def dkwL_law_25 : List UInt8 := [96, 46, 42, 21, 4, 6, 96, 46, 45, 184, 0, 137, 54, 5, 44, 42, 21, 4, 4, 96, 46, 42, 21, 4]
abbrev dktL_law_25 : List UInt8 := dkwL_law_25 ++ dktL_law_26
def dkwL_law_24 : List UInt8 := [47, 21, 6, 133, 148, 153, 0, 5, 3, 172, 167, 5, 137, 43, 42, 21, 4, 4, 96, 46, 42, 21, 4, 5]
abbrev dktL_law_24 : List UInt8 := dkwL_law_24 ++ dktL_law_25
def dkwL_law_23 : List UInt8 := [46, 182, 0, 136, 54, 6, 44, 182, 0, 107, 21, 5, 159, 0, 5, 3, 172, 21, 5, 154, 0, 15, 45, 3]
abbrev dktL_law_23 : List UInt8 := dkwL_law_23 ++ dktL_law_24
def dkwL_law_22 : List UInt8 := [45, 184, 0, 134, 54, 5, 44, 42, 21, 4, 4, 96, 46, 42, 21, 4, 5, 96, 46, 42, 21, 4, 6, 96]
abbrev dktL_law_22 : List UInt8 := dkwL_law_22 ++ dktL_law_23
def dkwL_law_21 : List UInt8 := [159, 5, 219, 3, 172, 43, 42, 21, 4, 4, 96, 46, 42, 21, 4, 5, 96, 46, 42, 21, 4, 6, 96, 46]
abbrev dktL_law_21 : List UInt8 := dkwL_law_21 ++ dktL_law_22
def dkwL_law_20 : List UInt8 := [167, 5, 243, 43, 182, 0, 126, 44, 182, 0, 129, 159, 5, 232, 3, 172, 43, 182, 0, 130, 44, 182, 0, 133]
abbrev dktL_law_20 : List UInt8 := dkwL_law_20 ++ dktL_law_21
def dkwL_law_19 : List UInt8 := [21, 5, 159, 0, 5, 3, 172, 21, 5, 154, 0, 15, 45, 3, 47, 21, 6, 133, 148, 153, 0, 5, 3, 172]
abbrev dktL_law_19 : List UInt8 := dkwL_law_19 ++ dktL_law_20
def dkwL_law_18 : List UInt8 := [96, 46, 42, 21, 4, 5, 96, 46, 42, 21, 4, 6, 96, 46, 182, 0, 125, 54, 6, 44, 182, 0, 107]
abbrev dktL_law_18 : List UInt8 := dkwL_law_18 ++ dktL_law_19
def dkwL_law_17 : List UInt8 := [46, 42, 21, 4, 5, 96, 46, 42, 21, 4, 6, 96, 46, 45, 184, 0, 122, 54, 5, 44, 42, 21, 4, 4]
abbrev dktL_law_17 : List UInt8 := dkwL_law_17 ++ dktL_law_18
def dkwL_law_16 : List UInt8 := [154, 0, 15, 45, 3, 47, 21, 6, 133, 148, 153, 0, 5, 3, 172, 167, 6, 67, 43, 42, 21, 4, 4, 96]
abbrev dktL_law_16 : List UInt8 := dkwL_law_16 ++ dktL_law_17
def dkwL_law_15 : List UInt8 := [21, 4, 4, 96, 46, 182, 0, 121, 54, 6, 44, 182, 0, 107, 21, 5, 159, 0, 5, 3, 172, 21, 5]
abbrev dktL_law_15 : List UInt8 := dkwL_law_15 ++ dktL_law_16
def dkwL_law_14 : List UInt8 := [153, 0, 5, 3, 172, 167, 6, 123, 43, 42, 21, 4, 4, 96, 46, 45, 184, 0, 118, 54, 5, 44, 42]
abbrev dktL_law_14 : List UInt8 := dkwL_law_14 ++ dktL_law_15
def dkwL_law_13 : List UInt8 := [182, 0, 107, 21, 5, 159, 0, 5, 3, 172, 21, 5, 154, 0, 15, 45, 3, 47, 21, 6, 133, 148]
abbrev dktL_law_13 : List UInt8 := dkwL_law_13 ++ dktL_law_14
def dkwL_law_12 : List UInt8 := [184, 0, 114, 54, 5, 44, 42, 21, 4, 4, 96, 46, 42, 21, 4, 5, 96, 46, 182, 0, 117, 54, 6, 44]
abbrev dktL_law_12 : List UInt8 := dkwL_law_12 ++ dktL_law_13
def dkwL_law_11 : List UInt8 := [153, 0, 5, 3, 172, 167, 6, 191, 43, 42, 21, 4, 4, 96, 46, 42, 21, 4, 5, 96, 46, 45]
abbrev dktL_law_11 : List UInt8 := dkwL_law_11 ++ dktL_law_12
def dkwL_law_10 : List UInt8 := [182, 0, 107, 21, 5, 159, 0, 5, 3, 172, 21, 5, 154, 0, 15, 45, 3, 47, 21, 6, 133, 148]
abbrev dktL_law_10 : List UInt8 := dkwL_law_10 ++ dktL_law_11
def dkwL_law_9 : List UInt8 := [42, 21, 4, 5, 96, 46, 42, 21, 4, 6, 96, 46, 42, 21, 4, 7, 96, 46, 182, 0, 113, 54, 6, 44]
abbrev dktL_law_9 : List UInt8 := dkwL_law_9 ++ dktL_law_10
def dkwL_law_8 : List UInt8 := [21, 4, 6, 96, 46, 42, 21, 4, 7, 96, 46, 45, 184, 0, 110, 54, 5, 44, 42, 21, 4, 4, 96, 46]
abbrev dktL_law_8 : List UInt8 := dkwL_law_8 ++ dktL_law_9
def dkwL_law_7 : List UInt8 := [148, 153, 0, 5, 3, 172, 167, 7, 27, 43, 42, 21, 4, 4, 96, 46, 42, 21, 4, 5, 96, 46, 42]
abbrev dktL_law_7 : List UInt8 := dkwL_law_7 ++ dktL_law_8
def dkwL_law_6 : List UInt8 := [54, 6, 44, 182, 0, 107, 21, 5, 159, 0, 5, 3, 172, 21, 5, 154, 0, 15, 45, 3, 47, 21, 6, 133]
abbrev dktL_law_6 : List UInt8 := dkwL_law_6 ++ dktL_law_7
def dkwL_law_5 : List UInt8 := [96, 46, 42, 21, 4, 6, 96, 46, 42, 21, 4, 7, 96, 46, 42, 21, 4, 8, 96, 46, 182, 0, 106]
abbrev dktL_law_5 : List UInt8 := dkwL_law_5 ++ dktL_law_6
def dkwL_law_4 : List UInt8 := [46, 42, 21, 4, 8, 96, 46, 45, 184, 0, 101, 54, 5, 44, 42, 21, 4, 4, 96, 46, 42, 21, 4, 5]
abbrev dktL_law_4 : List UInt8 := dkwL_law_4 ++ dktL_law_5
def dkwL_law_3 : List UInt8 := [43, 42, 21, 4, 4, 96, 46, 42, 21, 4, 5, 96, 46, 42, 21, 4, 6, 96, 46, 42, 21, 4, 7, 96]
abbrev dktL_law_3 : List UInt8 := dkwL_law_3 ++ dktL_law_4
def dkwL_law_2 : List UInt8 := [170, 0, 0, 0, 0, 0, 8, 28, 0, 0, 0, 0, 0, 0, 0, 34, 0, 0, 0, 156, 0, 0, 1, 4, 0, 0, 1, 96, 0, 0, 1, 164, 0, 0, 1, 220, 0, 0, 2, 44, 0, 0, 2, 57, 0, 0, 2, 70, 0, 0, 2, 150, 0, 0, 2, 230, 0, 0, 3, 42, 0, 0, 3, 138, 0, 0, 3, 241, 0, 0, 4, 41, 0, 0, 4, 54, 0, 0, 4, 110, 0, 0, 4, 202, 0, 0, 5, 38, 0, 0, 5, 106, 0, 0, 5, 170, 0, 0, 5, 183, 0, 0, 5, 251, 0, 0, 6, 8, 0, 0, 6, 76, 0, 0, 6, 89, 0, 0, 6, 102, 0, 0, 6, 115, 0, 0, 6, 128, 0, 0, 6, 141, 0, 0, 6, 197, 0, 0, 6, 253, 0, 0, 7, 10, 0, 0, 7, 54, 0, 0, 7, 122, 0, 0, 7, 240]
abbrev dktL_law_2 : List UInt8 := dkwL_law_2 ++ dktL_law_3
def dkwL_law_1 : List UInt8 := [21, 4, 42, 190, 16, 7, 100, 163, 8, 44, 42, 21, 4, 46, 16, 63, 126]
abbrev dktL_law_1 : List UInt8 := dkwL_law_1 ++ dktL_law_2
def dkwL_law_0 : List UInt8 := [187, 0, 8, 89, 183, 0, 97, 76, 187, 0, 98, 89, 183, 0, 100, 77, 4, 188, 11, 78, 3, 54, 4]
abbrev dktL_law_0 : List UInt8 := dkwL_law_0 ++ dktL_law_1
theorem dksL_law_0 : cL_law.data.toList.drop 0 = dktL_law_0 := by decide +kernel
theorem dksL_law_1 : cL_law.data.toList.drop 23 = dktL_law_1 := dk_seg dksL_law_0 23 rfl rfl
theorem dksL_law_2 : cL_law.data.toList.drop 40 = dktL_law_2 := dk_seg dksL_law_1 17 rfl rfl
theorem dksL_law_3 : cL_law.data.toList.drop 196 = dktL_law_3 := dk_seg dksL_law_2 156 rfl rfl
theorem dksL_law_4 : cL_law.data.toList.drop 220 = dktL_law_4 := dk_seg dksL_law_3 24 rfl rfl
theorem dksL_law_5 : cL_law.data.toList.drop 244 = dktL_law_5 := dk_seg dksL_law_4 24 rfl rfl
theorem dksL_law_6 : cL_law.data.toList.drop 267 = dktL_law_6 := dk_seg dksL_law_5 23 rfl rfl
theorem dksL_law_7 : cL_law.data.toList.drop 291 = dktL_law_7 := dk_seg dksL_law_6 24 rfl rfl
theorem dksL_law_8 : cL_law.data.toList.drop 314 = dktL_law_8 := dk_seg dksL_law_7 23 rfl rfl
theorem dksL_law_9 : cL_law.data.toList.drop 338 = dktL_law_9 := dk_seg dksL_law_8 24 rfl rfl
theorem dksL_law_10 : cL_law.data.toList.drop 362 = dktL_law_10 := dk_seg dksL_law_9 24 rfl rfl
theorem dksL_law_11 : cL_law.data.toList.drop 384 = dktL_law_11 := dk_seg dksL_law_10 22 rfl rfl
theorem dksL_law_12 : cL_law.data.toList.drop 406 = dktL_law_12 := dk_seg dksL_law_11 22 rfl rfl
theorem dksL_law_13 : cL_law.data.toList.drop 430 = dktL_law_13 := dk_seg dksL_law_12 24 rfl rfl
theorem dksL_law_14 : cL_law.data.toList.drop 452 = dktL_law_14 := dk_seg dksL_law_13 22 rfl rfl
theorem dksL_law_15 : cL_law.data.toList.drop 475 = dktL_law_15 := dk_seg dksL_law_14 23 rfl rfl
theorem dksL_law_16 : cL_law.data.toList.drop 498 = dktL_law_16 := dk_seg dksL_law_15 23 rfl rfl
theorem dksL_law_17 : cL_law.data.toList.drop 522 = dktL_law_17 := dk_seg dksL_law_16 24 rfl rfl
theorem dksL_law_18 : cL_law.data.toList.drop 546 = dktL_law_18 := dk_seg dksL_law_17 24 rfl rfl
theorem dksL_law_19 : cL_law.data.toList.drop 569 = dktL_law_19 := dk_seg dksL_law_18 23 rfl rfl
theorem dksL_law_20 : cL_law.data.toList.drop 593 = dktL_law_20 := dk_seg dksL_law_19 24 rfl rfl
theorem dksL_law_21 : cL_law.data.toList.drop 617 = dktL_law_21 := dk_seg dksL_law_20 24 rfl rfl
theorem dksL_law_22 : cL_law.data.toList.drop 641 = dktL_law_22 := dk_seg dksL_law_21 24 rfl rfl
theorem dksL_law_23 : cL_law.data.toList.drop 665 = dktL_law_23 := dk_seg dksL_law_22 24 rfl rfl
theorem dksL_law_24 : cL_law.data.toList.drop 689 = dktL_law_24 := dk_seg dksL_law_23 24 rfl rfl
theorem dksL_law_25 : cL_law.data.toList.drop 713 = dktL_law_25 := dk_seg dksL_law_24 24 rfl rfl
theorem dksL_law_26 : cL_law.data.toList.drop 737 = dktL_law_26 := dk_seg dksL_law_25 24 rfl rfl
theorem dksL_law_27 : cL_law.data.toList.drop 761 = dktL_law_27 := dk_seg dksL_law_26 24 rfl rfl
theorem dksL_law_28 : cL_law.data.toList.drop 784 = dktL_law_28 := dk_seg dksL_law_27 23 rfl rfl
theorem dksL_law_29 : cL_law.data.toList.drop 808 = dktL_law_29 := dk_seg dksL_law_28 24 rfl rfl
theorem dksL_law_30 : cL_law.data.toList.drop 832 = dktL_law_30 := dk_seg dksL_law_29 24 rfl rfl
theorem dksL_law_31 : cL_law.data.toList.drop 856 = dktL_law_31 := dk_seg dksL_law_30 24 rfl rfl
theorem dksL_law_32 : cL_law.data.toList.drop 878 = dktL_law_32 := dk_seg dksL_law_31 22 rfl rfl
theorem dksL_law_33 : cL_law.data.toList.drop 902 = dktL_law_33 := dk_seg dksL_law_32 24 rfl rfl
theorem dksL_law_34 : cL_law.data.toList.drop 926 = dktL_law_34 := dk_seg dksL_law_33 24 rfl rfl
theorem dksL_law_35 : cL_law.data.toList.drop 950 = dktL_law_35 := dk_seg dksL_law_34 24 rfl rfl
theorem dksL_law_36 : cL_law.data.toList.drop 974 = dktL_law_36 := dk_seg dksL_law_35 24 rfl rfl
theorem dksL_law_37 : cL_law.data.toList.drop 998 = dktL_law_37 := dk_seg dksL_law_36 24 rfl rfl
theorem dksL_law_38 : cL_law.data.toList.drop 1022 = dktL_law_38 := dk_seg dksL_law_37 24 rfl rfl
theorem dksL_law_39 : cL_law.data.toList.drop 1046 = dktL_law_39 := dk_seg dksL_law_38 24 rfl rfl
theorem dksL_law_40 : cL_law.data.toList.drop 1069 = dktL_law_40 := dk_seg dksL_law_39 23 rfl rfl
theorem dksL_law_41 : cL_law.data.toList.drop 1093 = dktL_law_41 := dk_seg dksL_law_40 24 rfl rfl
theorem dksL_law_42 : cL_law.data.toList.drop 1117 = dktL_law_42 := dk_seg dksL_law_41 24 rfl rfl
theorem dksL_law_43 : cL_law.data.toList.drop 1141 = dktL_law_43 := dk_seg dksL_law_42 24 rfl rfl
theorem dksL_law_44 : cL_law.data.toList.drop 1165 = dktL_law_44 := dk_seg dksL_law_43 24 rfl rfl
theorem dksL_law_45 : cL_law.data.toList.drop 1188 = dktL_law_45 := dk_seg dksL_law_44 23 rfl rfl
theorem dksL_law_46 : cL_law.data.toList.drop 1212 = dktL_law_46 := dk_seg dksL_law_45 24 rfl rfl
theorem dksL_law_47 : cL_law.data.toList.drop 1236 = dktL_law_47 := dk_seg dksL_law_46 24 rfl rfl
theorem dksL_law_48 : cL_law.data.toList.drop 1258 = dktL_law_48 := dk_seg dksL_law_47 22 rfl rfl
theorem dksL_law_49 : cL_law.data.toList.drop 1282 = dktL_law_49 := dk_seg dksL_law_48 24 rfl rfl
theorem dksL_law_50 : cL_law.data.toList.drop 1305 = dktL_law_50 := dk_seg dksL_law_49 23 rfl rfl
theorem dksL_law_51 : cL_law.data.toList.drop 1328 = dktL_law_51 := dk_seg dksL_law_50 23 rfl rfl
theorem dksL_law_52 : cL_law.data.toList.drop 1350 = dktL_law_52 := dk_seg dksL_law_51 22 rfl rfl
theorem dksL_law_53 : cL_law.data.toList.drop 1372 = dktL_law_53 := dk_seg dksL_law_52 22 rfl rfl
theorem dksL_law_54 : cL_law.data.toList.drop 1396 = dktL_law_54 := dk_seg dksL_law_53 24 rfl rfl
theorem dksL_law_55 : cL_law.data.toList.drop 1418 = dktL_law_55 := dk_seg dksL_law_54 22 rfl rfl
theorem dksL_law_56 : cL_law.data.toList.drop 1442 = dktL_law_56 := dk_seg dksL_law_55 24 rfl rfl
theorem dksL_law_57 : cL_law.data.toList.drop 1465 = dktL_law_57 := dk_seg dksL_law_56 23 rfl rfl
theorem dksL_law_58 : cL_law.data.toList.drop 1487 = dktL_law_58 := dk_seg dksL_law_57 22 rfl rfl
theorem dksL_law_59 : cL_law.data.toList.drop 1511 = dktL_law_59 := dk_seg dksL_law_58 24 rfl rfl
theorem dksL_law_60 : cL_law.data.toList.drop 1535 = dktL_law_60 := dk_seg dksL_law_59 24 rfl rfl
theorem dksL_law_61 : cL_law.data.toList.drop 1559 = dktL_law_61 := dk_seg dksL_law_60 24 rfl rfl
theorem dksL_law_62 : cL_law.data.toList.drop 1583 = dktL_law_62 := dk_seg dksL_law_61 24 rfl rfl
theorem dksL_law_63 : cL_law.data.toList.drop 1607 = dktL_law_63 := dk_seg dksL_law_62 24 rfl rfl
theorem dksL_law_64 : cL_law.data.toList.drop 1631 = dktL_law_64 := dk_seg dksL_law_63 24 rfl rfl
theorem dksL_law_65 : cL_law.data.toList.drop 1653 = dktL_law_65 := dk_seg dksL_law_64 22 rfl rfl
theorem dksL_law_66 : cL_law.data.toList.drop 1677 = dktL_law_66 := dk_seg dksL_law_65 24 rfl rfl
theorem dksL_law_67 : cL_law.data.toList.drop 1699 = dktL_law_67 := dk_seg dksL_law_66 22 rfl rfl
theorem dksL_law_68 : cL_law.data.toList.drop 1723 = dktL_law_68 := dk_seg dksL_law_67 24 rfl rfl
theorem dksL_law_69 : cL_law.data.toList.drop 1746 = dktL_law_69 := dk_seg dksL_law_68 23 rfl rfl
theorem dksL_law_70 : cL_law.data.toList.drop 1770 = dktL_law_70 := dk_seg dksL_law_69 24 rfl rfl
theorem dksL_law_71 : cL_law.data.toList.drop 1793 = dktL_law_71 := dk_seg dksL_law_70 23 rfl rfl
theorem dksL_law_72 : cL_law.data.toList.drop 1817 = dktL_law_72 := dk_seg dksL_law_71 24 rfl rfl
theorem dksL_law_73 : cL_law.data.toList.drop 1841 = dktL_law_73 := dk_seg dksL_law_72 24 rfl rfl
theorem dksL_law_74 : cL_law.data.toList.drop 1865 = dktL_law_74 := dk_seg dksL_law_73 24 rfl rfl
theorem dksL_law_75 : cL_law.data.toList.drop 1888 = dktL_law_75 := dk_seg dksL_law_74 23 rfl rfl
theorem dksL_law_76 : cL_law.data.toList.drop 1912 = dktL_law_76 := dk_seg dksL_law_75 24 rfl rfl
theorem dksL_law_77 : cL_law.data.toList.drop 1936 = dktL_law_77 := dk_seg dksL_law_76 24 rfl rfl
theorem dksL_law_78 : cL_law.data.toList.drop 1960 = dktL_law_78 := dk_seg dksL_law_77 24 rfl rfl
theorem dksL_law_79 : cL_law.data.toList.drop 1984 = dktL_law_79 := dk_seg dksL_law_78 24 rfl rfl
theorem dksL_law_80 : cL_law.data.toList.drop 2008 = dktL_law_80 := dk_seg dksL_law_79 24 rfl rfl
theorem dksL_law_81 : cL_law.data.toList.drop 2032 = dktL_law_81 := dk_seg dksL_law_80 24 rfl rfl
theorem dksL_law_82 : cL_law.data.toList.drop 2054 = dktL_law_82 := dk_seg dksL_law_81 22 rfl rfl
theorem dksL_law_83 : cL_law.data.toList.drop 2077 = dktL_law_83 := dk_seg dksL_law_82 23 rfl rfl
theorem dksL_law_84 : cL_law.data.toList.drop 2101 = dktL_law_84 := dk_seg dksL_law_83 24 rfl rfl
theorem dL_law_0 : decode cL_law 0 = .ok (.new 8, 3) := dk_187 0 8 (dk_at dksL_law_0 0 rfl rfl)
theorem dL_law_3 : decode cL_law 3 = .ok (.dup, 1) := dk_89 (dk_at dksL_law_0 3 rfl rfl)
theorem dL_law_4 : decode cL_law 4 = .ok (.invokespecial 97, 3) := dk_183 0 97 (dk_at dksL_law_0 4 rfl rfl)
theorem dL_law_7 : decode cL_law 7 = .ok (.astore_n 1, 1) := dk_76 (dk_at dksL_law_0 7 rfl rfl)
theorem dL_law_8 : decode cL_law 8 = .ok (.new 98, 3) := dk_187 0 98 (dk_at dksL_law_0 8 rfl rfl)
theorem dL_law_11 : decode cL_law 11 = .ok (.dup, 1) := dk_89 (dk_at dksL_law_0 11 rfl rfl)
theorem dL_law_12 : decode cL_law 12 = .ok (.invokespecial 100, 3) := dk_183 0 100 (dk_at dksL_law_0 12 rfl rfl)
theorem dL_law_15 : decode cL_law 15 = .ok (.astore_n 2, 1) := dk_77 (dk_at dksL_law_0 15 rfl rfl)
theorem dL_law_16 : decode cL_law 16 = .ok (.iconst 1, 1) := dk_4 (dk_at dksL_law_0 16 rfl rfl)
theorem dL_law_17 : decode cL_law 17 = .ok (.newarray .long, 2) := dk_188_11 (dk_at dksL_law_0 17 rfl rfl)
theorem dL_law_19 : decode cL_law 19 = .ok (.astore_n 3, 1) := dk_78 (dk_at dksL_law_0 19 rfl rfl)
theorem dL_law_20 : decode cL_law 20 = .ok (.iconst 0, 1) := dk_3 (dk_at dksL_law_0 20 rfl rfl)
theorem dL_law_21 : decode cL_law 21 = .ok (.istore 4, 2) := dk_54 4 (dk_at dksL_law_0 21 rfl rfl)
theorem dL_law_23 : decode cL_law 23 = .ok (.iload 4, 2) := dk_21 4 (dk_at dksL_law_1 0 rfl rfl)
theorem dL_law_25 : decode cL_law 25 = .ok (.aload_n 0, 1) := dk_42 (dk_at dksL_law_1 2 rfl rfl)
theorem dL_law_26 : decode cL_law 26 = .ok (.arraylength, 1) := dk_190 (dk_at dksL_law_1 3 rfl rfl)
theorem dL_law_27 : decode cL_law 27 = .ok (.bipush 7, 2) := dk_16 7 (dk_at dksL_law_1 4 rfl rfl)
theorem dL_law_29 : decode cL_law 29 = .ok (.isub, 1) := dk_100 (dk_at dksL_law_1 6 rfl rfl)
theorem dL_law_30 : decode cL_law 30 = .ok (.if_icmp .gt 2092, 3) := dk_163 8 44 (dk_at dksL_law_1 7 rfl rfl)
theorem dL_law_33 : decode cL_law 33 = .ok (.aload_n 0, 1) := dk_42 (dk_at dksL_law_1 10 rfl rfl)
theorem dL_law_34 : decode cL_law 34 = .ok (.iload 4, 2) := dk_21 4 (dk_at dksL_law_1 11 rfl rfl)
theorem dL_law_36 : decode cL_law 36 = .ok (.iaload, 1) := dk_46 (dk_at dksL_law_1 13 rfl rfl)
theorem dL_law_37 : decode cL_law 37 = .ok (.bipush 63, 2) := dk_16 63 (dk_at dksL_law_1 14 rfl rfl)
theorem dL_law_39 : decode cL_law 39 = .ok (.iand, 1) := dk_126 (dk_at dksL_law_1 16 rfl rfl)
theorem dL_law_40 : decode cL_law 40 = .ok (.tableswitch 2076 0 34 #[156, 260, 352, 420, 476, 556, 569, 582, 662, 742, 810, 906, 1009, 1065, 1078, 1134, 1226, 1318, 1386, 1450, 1463, 1531, 1544, 1612, 1625, 1638, 1651, 1664, 1677, 1733, 1789, 1802, 1846, 1914, 2032], 156) := by decide +kernel
theorem dL_law_196 : decode cL_law 196 = .ok (.aload_n 1, 1) := dk_43 (dk_at dksL_law_3 0 rfl rfl)
theorem dL_law_197 : decode cL_law 197 = .ok (.aload_n 0, 1) := dk_42 (dk_at dksL_law_3 1 rfl rfl)
theorem dL_law_198 : decode cL_law 198 = .ok (.iload 4, 2) := dk_21 4 (dk_at dksL_law_3 2 rfl rfl)
theorem dL_law_200 : decode cL_law 200 = .ok (.iconst 1, 1) := dk_4 (dk_at dksL_law_3 4 rfl rfl)
theorem dL_law_201 : decode cL_law 201 = .ok (.iadd, 1) := dk_96 (dk_at dksL_law_3 5 rfl rfl)
theorem dL_law_202 : decode cL_law 202 = .ok (.iaload, 1) := dk_46 (dk_at dksL_law_3 6 rfl rfl)
theorem dL_law_203 : decode cL_law 203 = .ok (.aload_n 0, 1) := dk_42 (dk_at dksL_law_3 7 rfl rfl)
theorem dL_law_204 : decode cL_law 204 = .ok (.iload 4, 2) := dk_21 4 (dk_at dksL_law_3 8 rfl rfl)
theorem dL_law_206 : decode cL_law 206 = .ok (.iconst 2, 1) := dk_5 (dk_at dksL_law_3 10 rfl rfl)
theorem dL_law_207 : decode cL_law 207 = .ok (.iadd, 1) := dk_96 (dk_at dksL_law_3 11 rfl rfl)
theorem dL_law_208 : decode cL_law 208 = .ok (.iaload, 1) := dk_46 (dk_at dksL_law_3 12 rfl rfl)
theorem dL_law_209 : decode cL_law 209 = .ok (.aload_n 0, 1) := dk_42 (dk_at dksL_law_3 13 rfl rfl)
theorem dL_law_210 : decode cL_law 210 = .ok (.iload 4, 2) := dk_21 4 (dk_at dksL_law_3 14 rfl rfl)
theorem dL_law_212 : decode cL_law 212 = .ok (.iconst 3, 1) := dk_6 (dk_at dksL_law_3 16 rfl rfl)
theorem dL_law_213 : decode cL_law 213 = .ok (.iadd, 1) := dk_96 (dk_at dksL_law_3 17 rfl rfl)
theorem dL_law_214 : decode cL_law 214 = .ok (.iaload, 1) := dk_46 (dk_at dksL_law_3 18 rfl rfl)
theorem dL_law_215 : decode cL_law 215 = .ok (.aload_n 0, 1) := dk_42 (dk_at dksL_law_3 19 rfl rfl)
theorem dL_law_216 : decode cL_law 216 = .ok (.iload 4, 2) := dk_21 4 (dk_at dksL_law_3 20 rfl rfl)
theorem dL_law_218 : decode cL_law 218 = .ok (.iconst 4, 1) := dk_7 (dk_at dksL_law_3 22 rfl rfl)
theorem dL_law_219 : decode cL_law 219 = .ok (.iadd, 1) := dk_96 (dk_at dksL_law_3 23 rfl rfl)
theorem dL_law_220 : decode cL_law 220 = .ok (.iaload, 1) := dk_46 (dk_at dksL_law_4 0 rfl rfl)
theorem dL_law_221 : decode cL_law 221 = .ok (.aload_n 0, 1) := dk_42 (dk_at dksL_law_4 1 rfl rfl)
theorem dL_law_222 : decode cL_law 222 = .ok (.iload 4, 2) := dk_21 4 (dk_at dksL_law_4 2 rfl rfl)
theorem dL_law_224 : decode cL_law 224 = .ok (.iconst 5, 1) := dk_8 (dk_at dksL_law_4 4 rfl rfl)
theorem dL_law_225 : decode cL_law 225 = .ok (.iadd, 1) := dk_96 (dk_at dksL_law_4 5 rfl rfl)
theorem dL_law_226 : decode cL_law 226 = .ok (.iaload, 1) := dk_46 (dk_at dksL_law_4 6 rfl rfl)
theorem dL_law_227 : decode cL_law 227 = .ok (.aload_n 3, 1) := dk_45 (dk_at dksL_law_4 7 rfl rfl)
theorem dL_law_228 : decode cL_law 228 = .ok (.invokestatic 101, 3) := dk_184 0 101 (dk_at dksL_law_4 8 rfl rfl)
theorem dL_law_231 : decode cL_law 231 = .ok (.istore 5, 2) := dk_54 5 (dk_at dksL_law_4 11 rfl rfl)
theorem dL_law_233 : decode cL_law 233 = .ok (.aload_n 2, 1) := dk_44 (dk_at dksL_law_4 13 rfl rfl)
theorem dL_law_234 : decode cL_law 234 = .ok (.aload_n 0, 1) := dk_42 (dk_at dksL_law_4 14 rfl rfl)
theorem dL_law_235 : decode cL_law 235 = .ok (.iload 4, 2) := dk_21 4 (dk_at dksL_law_4 15 rfl rfl)
theorem dL_law_237 : decode cL_law 237 = .ok (.iconst 1, 1) := dk_4 (dk_at dksL_law_4 17 rfl rfl)
theorem dL_law_238 : decode cL_law 238 = .ok (.iadd, 1) := dk_96 (dk_at dksL_law_4 18 rfl rfl)
theorem dL_law_239 : decode cL_law 239 = .ok (.iaload, 1) := dk_46 (dk_at dksL_law_4 19 rfl rfl)
theorem dL_law_240 : decode cL_law 240 = .ok (.aload_n 0, 1) := dk_42 (dk_at dksL_law_4 20 rfl rfl)
theorem dL_law_241 : decode cL_law 241 = .ok (.iload 4, 2) := dk_21 4 (dk_at dksL_law_4 21 rfl rfl)
theorem dL_law_243 : decode cL_law 243 = .ok (.iconst 2, 1) := dk_5 (dk_at dksL_law_4 23 rfl rfl)
theorem dL_law_244 : decode cL_law 244 = .ok (.iadd, 1) := dk_96 (dk_at dksL_law_5 0 rfl rfl)
theorem dL_law_245 : decode cL_law 245 = .ok (.iaload, 1) := dk_46 (dk_at dksL_law_5 1 rfl rfl)
theorem dL_law_246 : decode cL_law 246 = .ok (.aload_n 0, 1) := dk_42 (dk_at dksL_law_5 2 rfl rfl)
theorem dL_law_247 : decode cL_law 247 = .ok (.iload 4, 2) := dk_21 4 (dk_at dksL_law_5 3 rfl rfl)
theorem dL_law_249 : decode cL_law 249 = .ok (.iconst 3, 1) := dk_6 (dk_at dksL_law_5 5 rfl rfl)
theorem dL_law_250 : decode cL_law 250 = .ok (.iadd, 1) := dk_96 (dk_at dksL_law_5 6 rfl rfl)
theorem dL_law_251 : decode cL_law 251 = .ok (.iaload, 1) := dk_46 (dk_at dksL_law_5 7 rfl rfl)
theorem dL_law_252 : decode cL_law 252 = .ok (.aload_n 0, 1) := dk_42 (dk_at dksL_law_5 8 rfl rfl)
theorem dL_law_253 : decode cL_law 253 = .ok (.iload 4, 2) := dk_21 4 (dk_at dksL_law_5 9 rfl rfl)
theorem dL_law_255 : decode cL_law 255 = .ok (.iconst 4, 1) := dk_7 (dk_at dksL_law_5 11 rfl rfl)
theorem dL_law_256 : decode cL_law 256 = .ok (.iadd, 1) := dk_96 (dk_at dksL_law_5 12 rfl rfl)
theorem dL_law_257 : decode cL_law 257 = .ok (.iaload, 1) := dk_46 (dk_at dksL_law_5 13 rfl rfl)
theorem dL_law_258 : decode cL_law 258 = .ok (.aload_n 0, 1) := dk_42 (dk_at dksL_law_5 14 rfl rfl)
theorem dL_law_259 : decode cL_law 259 = .ok (.iload 4, 2) := dk_21 4 (dk_at dksL_law_5 15 rfl rfl)
theorem dL_law_261 : decode cL_law 261 = .ok (.iconst 5, 1) := dk_8 (dk_at dksL_law_5 17 rfl rfl)
theorem dL_law_262 : decode cL_law 262 = .ok (.iadd, 1) := dk_96 (dk_at dksL_law_5 18 rfl rfl)
theorem dL_law_263 : decode cL_law 263 = .ok (.iaload, 1) := dk_46 (dk_at dksL_law_5 19 rfl rfl)
theorem dL_law_264 : decode cL_law 264 = .ok (.invokevirtual 106, 3) := dk_182 0 106 (dk_at dksL_law_5 20 rfl rfl)
theorem dL_law_267 : decode cL_law 267 = .ok (.istore 6, 2) := dk_54 6 (dk_at dksL_law_6 0 rfl rfl)
theorem dL_law_269 : decode cL_law 269 = .ok (.aload_n 2, 1) := dk_44 (dk_at dksL_law_6 2 rfl rfl)
theorem dL_law_270 : decode cL_law 270 = .ok (.invokevirtual 107, 3) := dk_182 0 107 (dk_at dksL_law_6 3 rfl rfl)
theorem dL_law_273 : decode cL_law 273 = .ok (.iload 5, 2) := dk_21 5 (dk_at dksL_law_6 6 rfl rfl)
theorem dL_law_275 : decode cL_law 275 = .ok (.if_icmp .eq 5, 3) := dk_159 0 5 (dk_at dksL_law_6 8 rfl rfl)
theorem dL_law_278 : decode cL_law 278 = .ok (.iconst 0, 1) := dk_3 (dk_at dksL_law_6 11 rfl rfl)
theorem dL_law_279 : decode cL_law 279 = .ok (.ireturn, 1) := dk_172 (dk_at dksL_law_6 12 rfl rfl)
theorem dL_law_280 : decode cL_law 280 = .ok (.iload 5, 2) := dk_21 5 (dk_at dksL_law_6 13 rfl rfl)
theorem dL_law_282 : decode cL_law 282 = .ok (.ifCond .ne 15, 3) := dk_154 0 15 (dk_at dksL_law_6 15 rfl rfl)
theorem dL_law_285 : decode cL_law 285 = .ok (.aload_n 3, 1) := dk_45 (dk_at dksL_law_6 18 rfl rfl)
theorem dL_law_286 : decode cL_law 286 = .ok (.iconst 0, 1) := dk_3 (dk_at dksL_law_6 19 rfl rfl)
theorem dL_law_287 : decode cL_law 287 = .ok (.laload, 1) := dk_47 (dk_at dksL_law_6 20 rfl rfl)
theorem dL_law_288 : decode cL_law 288 = .ok (.iload 6, 2) := dk_21 6 (dk_at dksL_law_6 21 rfl rfl)
theorem dL_law_290 : decode cL_law 290 = .ok (.i2l, 1) := dk_133 (dk_at dksL_law_6 23 rfl rfl)
theorem dL_law_291 : decode cL_law 291 = .ok (.lcmp, 1) := dk_148 (dk_at dksL_law_7 0 rfl rfl)
theorem dL_law_292 : decode cL_law 292 = .ok (.ifCond .eq 5, 3) := dk_153 0 5 (dk_at dksL_law_7 1 rfl rfl)
theorem dL_law_295 : decode cL_law 295 = .ok (.iconst 0, 1) := dk_3 (dk_at dksL_law_7 4 rfl rfl)
theorem dL_law_296 : decode cL_law 296 = .ok (.ireturn, 1) := dk_172 (dk_at dksL_law_7 5 rfl rfl)
theorem dL_law_297 : decode cL_law 297 = .ok (.goto 1819, 3) := dk_167 7 27 (dk_at dksL_law_7 6 rfl rfl)
theorem dL_law_300 : decode cL_law 300 = .ok (.aload_n 1, 1) := dk_43 (dk_at dksL_law_7 9 rfl rfl)
theorem dL_law_301 : decode cL_law 301 = .ok (.aload_n 0, 1) := dk_42 (dk_at dksL_law_7 10 rfl rfl)
theorem dL_law_302 : decode cL_law 302 = .ok (.iload 4, 2) := dk_21 4 (dk_at dksL_law_7 11 rfl rfl)
theorem dL_law_304 : decode cL_law 304 = .ok (.iconst 1, 1) := dk_4 (dk_at dksL_law_7 13 rfl rfl)
theorem dL_law_305 : decode cL_law 305 = .ok (.iadd, 1) := dk_96 (dk_at dksL_law_7 14 rfl rfl)
theorem dL_law_306 : decode cL_law 306 = .ok (.iaload, 1) := dk_46 (dk_at dksL_law_7 15 rfl rfl)
theorem dL_law_307 : decode cL_law 307 = .ok (.aload_n 0, 1) := dk_42 (dk_at dksL_law_7 16 rfl rfl)
theorem dL_law_308 : decode cL_law 308 = .ok (.iload 4, 2) := dk_21 4 (dk_at dksL_law_7 17 rfl rfl)
theorem dL_law_310 : decode cL_law 310 = .ok (.iconst 2, 1) := dk_5 (dk_at dksL_law_7 19 rfl rfl)
theorem dL_law_311 : decode cL_law 311 = .ok (.iadd, 1) := dk_96 (dk_at dksL_law_7 20 rfl rfl)
theorem dL_law_312 : decode cL_law 312 = .ok (.iaload, 1) := dk_46 (dk_at dksL_law_7 21 rfl rfl)
theorem dL_law_313 : decode cL_law 313 = .ok (.aload_n 0, 1) := dk_42 (dk_at dksL_law_7 22 rfl rfl)
theorem dL_law_314 : decode cL_law 314 = .ok (.iload 4, 2) := dk_21 4 (dk_at dksL_law_8 0 rfl rfl)
theorem dL_law_316 : decode cL_law 316 = .ok (.iconst 3, 1) := dk_6 (dk_at dksL_law_8 2 rfl rfl)
theorem dL_law_317 : decode cL_law 317 = .ok (.iadd, 1) := dk_96 (dk_at dksL_law_8 3 rfl rfl)
theorem dL_law_318 : decode cL_law 318 = .ok (.iaload, 1) := dk_46 (dk_at dksL_law_8 4 rfl rfl)
theorem dL_law_319 : decode cL_law 319 = .ok (.aload_n 0, 1) := dk_42 (dk_at dksL_law_8 5 rfl rfl)
theorem dL_law_320 : decode cL_law 320 = .ok (.iload 4, 2) := dk_21 4 (dk_at dksL_law_8 6 rfl rfl)
theorem dL_law_322 : decode cL_law 322 = .ok (.iconst 4, 1) := dk_7 (dk_at dksL_law_8 8 rfl rfl)
theorem dL_law_323 : decode cL_law 323 = .ok (.iadd, 1) := dk_96 (dk_at dksL_law_8 9 rfl rfl)
theorem dL_law_324 : decode cL_law 324 = .ok (.iaload, 1) := dk_46 (dk_at dksL_law_8 10 rfl rfl)
theorem dL_law_325 : decode cL_law 325 = .ok (.aload_n 3, 1) := dk_45 (dk_at dksL_law_8 11 rfl rfl)
theorem dL_law_326 : decode cL_law 326 = .ok (.invokestatic 110, 3) := dk_184 0 110 (dk_at dksL_law_8 12 rfl rfl)
theorem dL_law_329 : decode cL_law 329 = .ok (.istore 5, 2) := dk_54 5 (dk_at dksL_law_8 15 rfl rfl)
theorem dL_law_331 : decode cL_law 331 = .ok (.aload_n 2, 1) := dk_44 (dk_at dksL_law_8 17 rfl rfl)
theorem dL_law_332 : decode cL_law 332 = .ok (.aload_n 0, 1) := dk_42 (dk_at dksL_law_8 18 rfl rfl)
theorem dL_law_333 : decode cL_law 333 = .ok (.iload 4, 2) := dk_21 4 (dk_at dksL_law_8 19 rfl rfl)
theorem dL_law_335 : decode cL_law 335 = .ok (.iconst 1, 1) := dk_4 (dk_at dksL_law_8 21 rfl rfl)
theorem dL_law_336 : decode cL_law 336 = .ok (.iadd, 1) := dk_96 (dk_at dksL_law_8 22 rfl rfl)
theorem dL_law_337 : decode cL_law 337 = .ok (.iaload, 1) := dk_46 (dk_at dksL_law_8 23 rfl rfl)
theorem dL_law_338 : decode cL_law 338 = .ok (.aload_n 0, 1) := dk_42 (dk_at dksL_law_9 0 rfl rfl)
theorem dL_law_339 : decode cL_law 339 = .ok (.iload 4, 2) := dk_21 4 (dk_at dksL_law_9 1 rfl rfl)
theorem dL_law_341 : decode cL_law 341 = .ok (.iconst 2, 1) := dk_5 (dk_at dksL_law_9 3 rfl rfl)
theorem dL_law_342 : decode cL_law 342 = .ok (.iadd, 1) := dk_96 (dk_at dksL_law_9 4 rfl rfl)
theorem dL_law_343 : decode cL_law 343 = .ok (.iaload, 1) := dk_46 (dk_at dksL_law_9 5 rfl rfl)
theorem dL_law_344 : decode cL_law 344 = .ok (.aload_n 0, 1) := dk_42 (dk_at dksL_law_9 6 rfl rfl)
theorem dL_law_345 : decode cL_law 345 = .ok (.iload 4, 2) := dk_21 4 (dk_at dksL_law_9 7 rfl rfl)
theorem dL_law_347 : decode cL_law 347 = .ok (.iconst 3, 1) := dk_6 (dk_at dksL_law_9 9 rfl rfl)
theorem dL_law_348 : decode cL_law 348 = .ok (.iadd, 1) := dk_96 (dk_at dksL_law_9 10 rfl rfl)
theorem dL_law_349 : decode cL_law 349 = .ok (.iaload, 1) := dk_46 (dk_at dksL_law_9 11 rfl rfl)
theorem dL_law_350 : decode cL_law 350 = .ok (.aload_n 0, 1) := dk_42 (dk_at dksL_law_9 12 rfl rfl)
theorem dL_law_351 : decode cL_law 351 = .ok (.iload 4, 2) := dk_21 4 (dk_at dksL_law_9 13 rfl rfl)
theorem dL_law_353 : decode cL_law 353 = .ok (.iconst 4, 1) := dk_7 (dk_at dksL_law_9 15 rfl rfl)
theorem dL_law_354 : decode cL_law 354 = .ok (.iadd, 1) := dk_96 (dk_at dksL_law_9 16 rfl rfl)
theorem dL_law_355 : decode cL_law 355 = .ok (.iaload, 1) := dk_46 (dk_at dksL_law_9 17 rfl rfl)
theorem dL_law_356 : decode cL_law 356 = .ok (.invokevirtual 113, 3) := dk_182 0 113 (dk_at dksL_law_9 18 rfl rfl)
theorem dL_law_359 : decode cL_law 359 = .ok (.istore 6, 2) := dk_54 6 (dk_at dksL_law_9 21 rfl rfl)
theorem dL_law_361 : decode cL_law 361 = .ok (.aload_n 2, 1) := dk_44 (dk_at dksL_law_9 23 rfl rfl)
theorem dL_law_362 : decode cL_law 362 = .ok (.invokevirtual 107, 3) := dk_182 0 107 (dk_at dksL_law_10 0 rfl rfl)
theorem dL_law_365 : decode cL_law 365 = .ok (.iload 5, 2) := dk_21 5 (dk_at dksL_law_10 3 rfl rfl)
theorem dL_law_367 : decode cL_law 367 = .ok (.if_icmp .eq 5, 3) := dk_159 0 5 (dk_at dksL_law_10 5 rfl rfl)
theorem dL_law_370 : decode cL_law 370 = .ok (.iconst 0, 1) := dk_3 (dk_at dksL_law_10 8 rfl rfl)
theorem dL_law_371 : decode cL_law 371 = .ok (.ireturn, 1) := dk_172 (dk_at dksL_law_10 9 rfl rfl)
theorem dL_law_372 : decode cL_law 372 = .ok (.iload 5, 2) := dk_21 5 (dk_at dksL_law_10 10 rfl rfl)
theorem dL_law_374 : decode cL_law 374 = .ok (.ifCond .ne 15, 3) := dk_154 0 15 (dk_at dksL_law_10 12 rfl rfl)
theorem dL_law_377 : decode cL_law 377 = .ok (.aload_n 3, 1) := dk_45 (dk_at dksL_law_10 15 rfl rfl)
theorem dL_law_378 : decode cL_law 378 = .ok (.iconst 0, 1) := dk_3 (dk_at dksL_law_10 16 rfl rfl)
theorem dL_law_379 : decode cL_law 379 = .ok (.laload, 1) := dk_47 (dk_at dksL_law_10 17 rfl rfl)
theorem dL_law_380 : decode cL_law 380 = .ok (.iload 6, 2) := dk_21 6 (dk_at dksL_law_10 18 rfl rfl)
theorem dL_law_382 : decode cL_law 382 = .ok (.i2l, 1) := dk_133 (dk_at dksL_law_10 20 rfl rfl)
theorem dL_law_383 : decode cL_law 383 = .ok (.lcmp, 1) := dk_148 (dk_at dksL_law_10 21 rfl rfl)
theorem dL_law_384 : decode cL_law 384 = .ok (.ifCond .eq 5, 3) := dk_153 0 5 (dk_at dksL_law_11 0 rfl rfl)
theorem dL_law_387 : decode cL_law 387 = .ok (.iconst 0, 1) := dk_3 (dk_at dksL_law_11 3 rfl rfl)
theorem dL_law_388 : decode cL_law 388 = .ok (.ireturn, 1) := dk_172 (dk_at dksL_law_11 4 rfl rfl)
theorem dL_law_389 : decode cL_law 389 = .ok (.goto 1727, 3) := dk_167 6 191 (dk_at dksL_law_11 5 rfl rfl)
theorem dL_law_392 : decode cL_law 392 = .ok (.aload_n 1, 1) := dk_43 (dk_at dksL_law_11 8 rfl rfl)
theorem dL_law_393 : decode cL_law 393 = .ok (.aload_n 0, 1) := dk_42 (dk_at dksL_law_11 9 rfl rfl)
theorem dL_law_394 : decode cL_law 394 = .ok (.iload 4, 2) := dk_21 4 (dk_at dksL_law_11 10 rfl rfl)
theorem dL_law_396 : decode cL_law 396 = .ok (.iconst 1, 1) := dk_4 (dk_at dksL_law_11 12 rfl rfl)
theorem dL_law_397 : decode cL_law 397 = .ok (.iadd, 1) := dk_96 (dk_at dksL_law_11 13 rfl rfl)
theorem dL_law_398 : decode cL_law 398 = .ok (.iaload, 1) := dk_46 (dk_at dksL_law_11 14 rfl rfl)
theorem dL_law_399 : decode cL_law 399 = .ok (.aload_n 0, 1) := dk_42 (dk_at dksL_law_11 15 rfl rfl)
theorem dL_law_400 : decode cL_law 400 = .ok (.iload 4, 2) := dk_21 4 (dk_at dksL_law_11 16 rfl rfl)
theorem dL_law_402 : decode cL_law 402 = .ok (.iconst 2, 1) := dk_5 (dk_at dksL_law_11 18 rfl rfl)
theorem dL_law_403 : decode cL_law 403 = .ok (.iadd, 1) := dk_96 (dk_at dksL_law_11 19 rfl rfl)
theorem dL_law_404 : decode cL_law 404 = .ok (.iaload, 1) := dk_46 (dk_at dksL_law_11 20 rfl rfl)
theorem dL_law_405 : decode cL_law 405 = .ok (.aload_n 3, 1) := dk_45 (dk_at dksL_law_11 21 rfl rfl)
theorem dL_law_406 : decode cL_law 406 = .ok (.invokestatic 114, 3) := dk_184 0 114 (dk_at dksL_law_12 0 rfl rfl)
theorem dL_law_409 : decode cL_law 409 = .ok (.istore 5, 2) := dk_54 5 (dk_at dksL_law_12 3 rfl rfl)
theorem dL_law_411 : decode cL_law 411 = .ok (.aload_n 2, 1) := dk_44 (dk_at dksL_law_12 5 rfl rfl)
theorem dL_law_412 : decode cL_law 412 = .ok (.aload_n 0, 1) := dk_42 (dk_at dksL_law_12 6 rfl rfl)
theorem dL_law_413 : decode cL_law 413 = .ok (.iload 4, 2) := dk_21 4 (dk_at dksL_law_12 7 rfl rfl)
theorem dL_law_415 : decode cL_law 415 = .ok (.iconst 1, 1) := dk_4 (dk_at dksL_law_12 9 rfl rfl)
theorem dL_law_416 : decode cL_law 416 = .ok (.iadd, 1) := dk_96 (dk_at dksL_law_12 10 rfl rfl)
theorem dL_law_417 : decode cL_law 417 = .ok (.iaload, 1) := dk_46 (dk_at dksL_law_12 11 rfl rfl)
theorem dL_law_418 : decode cL_law 418 = .ok (.aload_n 0, 1) := dk_42 (dk_at dksL_law_12 12 rfl rfl)
theorem dL_law_419 : decode cL_law 419 = .ok (.iload 4, 2) := dk_21 4 (dk_at dksL_law_12 13 rfl rfl)
theorem dL_law_421 : decode cL_law 421 = .ok (.iconst 2, 1) := dk_5 (dk_at dksL_law_12 15 rfl rfl)
theorem dL_law_422 : decode cL_law 422 = .ok (.iadd, 1) := dk_96 (dk_at dksL_law_12 16 rfl rfl)
theorem dL_law_423 : decode cL_law 423 = .ok (.iaload, 1) := dk_46 (dk_at dksL_law_12 17 rfl rfl)
theorem dL_law_424 : decode cL_law 424 = .ok (.invokevirtual 117, 3) := dk_182 0 117 (dk_at dksL_law_12 18 rfl rfl)
theorem dL_law_427 : decode cL_law 427 = .ok (.istore 6, 2) := dk_54 6 (dk_at dksL_law_12 21 rfl rfl)
theorem dL_law_429 : decode cL_law 429 = .ok (.aload_n 2, 1) := dk_44 (dk_at dksL_law_12 23 rfl rfl)
theorem dL_law_430 : decode cL_law 430 = .ok (.invokevirtual 107, 3) := dk_182 0 107 (dk_at dksL_law_13 0 rfl rfl)
theorem dL_law_433 : decode cL_law 433 = .ok (.iload 5, 2) := dk_21 5 (dk_at dksL_law_13 3 rfl rfl)
theorem dL_law_435 : decode cL_law 435 = .ok (.if_icmp .eq 5, 3) := dk_159 0 5 (dk_at dksL_law_13 5 rfl rfl)
theorem dL_law_438 : decode cL_law 438 = .ok (.iconst 0, 1) := dk_3 (dk_at dksL_law_13 8 rfl rfl)
theorem dL_law_439 : decode cL_law 439 = .ok (.ireturn, 1) := dk_172 (dk_at dksL_law_13 9 rfl rfl)
theorem dL_law_440 : decode cL_law 440 = .ok (.iload 5, 2) := dk_21 5 (dk_at dksL_law_13 10 rfl rfl)
theorem dL_law_442 : decode cL_law 442 = .ok (.ifCond .ne 15, 3) := dk_154 0 15 (dk_at dksL_law_13 12 rfl rfl)
theorem dL_law_445 : decode cL_law 445 = .ok (.aload_n 3, 1) := dk_45 (dk_at dksL_law_13 15 rfl rfl)
theorem dL_law_446 : decode cL_law 446 = .ok (.iconst 0, 1) := dk_3 (dk_at dksL_law_13 16 rfl rfl)
theorem dL_law_447 : decode cL_law 447 = .ok (.laload, 1) := dk_47 (dk_at dksL_law_13 17 rfl rfl)
theorem dL_law_448 : decode cL_law 448 = .ok (.iload 6, 2) := dk_21 6 (dk_at dksL_law_13 18 rfl rfl)
theorem dL_law_450 : decode cL_law 450 = .ok (.i2l, 1) := dk_133 (dk_at dksL_law_13 20 rfl rfl)
theorem dL_law_451 : decode cL_law 451 = .ok (.lcmp, 1) := dk_148 (dk_at dksL_law_13 21 rfl rfl)
theorem dL_law_452 : decode cL_law 452 = .ok (.ifCond .eq 5, 3) := dk_153 0 5 (dk_at dksL_law_14 0 rfl rfl)
theorem dL_law_455 : decode cL_law 455 = .ok (.iconst 0, 1) := dk_3 (dk_at dksL_law_14 3 rfl rfl)
theorem dL_law_456 : decode cL_law 456 = .ok (.ireturn, 1) := dk_172 (dk_at dksL_law_14 4 rfl rfl)
theorem dL_law_457 : decode cL_law 457 = .ok (.goto 1659, 3) := dk_167 6 123 (dk_at dksL_law_14 5 rfl rfl)
theorem dL_law_460 : decode cL_law 460 = .ok (.aload_n 1, 1) := dk_43 (dk_at dksL_law_14 8 rfl rfl)
theorem dL_law_461 : decode cL_law 461 = .ok (.aload_n 0, 1) := dk_42 (dk_at dksL_law_14 9 rfl rfl)
theorem dL_law_462 : decode cL_law 462 = .ok (.iload 4, 2) := dk_21 4 (dk_at dksL_law_14 10 rfl rfl)
theorem dL_law_464 : decode cL_law 464 = .ok (.iconst 1, 1) := dk_4 (dk_at dksL_law_14 12 rfl rfl)
theorem dL_law_465 : decode cL_law 465 = .ok (.iadd, 1) := dk_96 (dk_at dksL_law_14 13 rfl rfl)
theorem dL_law_466 : decode cL_law 466 = .ok (.iaload, 1) := dk_46 (dk_at dksL_law_14 14 rfl rfl)
theorem dL_law_467 : decode cL_law 467 = .ok (.aload_n 3, 1) := dk_45 (dk_at dksL_law_14 15 rfl rfl)
theorem dL_law_468 : decode cL_law 468 = .ok (.invokestatic 118, 3) := dk_184 0 118 (dk_at dksL_law_14 16 rfl rfl)
theorem dL_law_471 : decode cL_law 471 = .ok (.istore 5, 2) := dk_54 5 (dk_at dksL_law_14 19 rfl rfl)
theorem dL_law_473 : decode cL_law 473 = .ok (.aload_n 2, 1) := dk_44 (dk_at dksL_law_14 21 rfl rfl)
theorem dL_law_474 : decode cL_law 474 = .ok (.aload_n 0, 1) := dk_42 (dk_at dksL_law_14 22 rfl rfl)
theorem dL_law_475 : decode cL_law 475 = .ok (.iload 4, 2) := dk_21 4 (dk_at dksL_law_15 0 rfl rfl)
theorem dL_law_477 : decode cL_law 477 = .ok (.iconst 1, 1) := dk_4 (dk_at dksL_law_15 2 rfl rfl)
theorem dL_law_478 : decode cL_law 478 = .ok (.iadd, 1) := dk_96 (dk_at dksL_law_15 3 rfl rfl)
theorem dL_law_479 : decode cL_law 479 = .ok (.iaload, 1) := dk_46 (dk_at dksL_law_15 4 rfl rfl)
theorem dL_law_480 : decode cL_law 480 = .ok (.invokevirtual 121, 3) := dk_182 0 121 (dk_at dksL_law_15 5 rfl rfl)
theorem dL_law_483 : decode cL_law 483 = .ok (.istore 6, 2) := dk_54 6 (dk_at dksL_law_15 8 rfl rfl)
theorem dL_law_485 : decode cL_law 485 = .ok (.aload_n 2, 1) := dk_44 (dk_at dksL_law_15 10 rfl rfl)
theorem dL_law_486 : decode cL_law 486 = .ok (.invokevirtual 107, 3) := dk_182 0 107 (dk_at dksL_law_15 11 rfl rfl)
theorem dL_law_489 : decode cL_law 489 = .ok (.iload 5, 2) := dk_21 5 (dk_at dksL_law_15 14 rfl rfl)
theorem dL_law_491 : decode cL_law 491 = .ok (.if_icmp .eq 5, 3) := dk_159 0 5 (dk_at dksL_law_15 16 rfl rfl)
theorem dL_law_494 : decode cL_law 494 = .ok (.iconst 0, 1) := dk_3 (dk_at dksL_law_15 19 rfl rfl)
theorem dL_law_495 : decode cL_law 495 = .ok (.ireturn, 1) := dk_172 (dk_at dksL_law_15 20 rfl rfl)
theorem dL_law_496 : decode cL_law 496 = .ok (.iload 5, 2) := dk_21 5 (dk_at dksL_law_15 21 rfl rfl)
theorem dL_law_498 : decode cL_law 498 = .ok (.ifCond .ne 15, 3) := dk_154 0 15 (dk_at dksL_law_16 0 rfl rfl)
theorem dL_law_501 : decode cL_law 501 = .ok (.aload_n 3, 1) := dk_45 (dk_at dksL_law_16 3 rfl rfl)
theorem dL_law_502 : decode cL_law 502 = .ok (.iconst 0, 1) := dk_3 (dk_at dksL_law_16 4 rfl rfl)
theorem dL_law_503 : decode cL_law 503 = .ok (.laload, 1) := dk_47 (dk_at dksL_law_16 5 rfl rfl)
theorem dL_law_504 : decode cL_law 504 = .ok (.iload 6, 2) := dk_21 6 (dk_at dksL_law_16 6 rfl rfl)
theorem dL_law_506 : decode cL_law 506 = .ok (.i2l, 1) := dk_133 (dk_at dksL_law_16 8 rfl rfl)
theorem dL_law_507 : decode cL_law 507 = .ok (.lcmp, 1) := dk_148 (dk_at dksL_law_16 9 rfl rfl)
theorem dL_law_508 : decode cL_law 508 = .ok (.ifCond .eq 5, 3) := dk_153 0 5 (dk_at dksL_law_16 10 rfl rfl)
theorem dL_law_511 : decode cL_law 511 = .ok (.iconst 0, 1) := dk_3 (dk_at dksL_law_16 13 rfl rfl)
theorem dL_law_512 : decode cL_law 512 = .ok (.ireturn, 1) := dk_172 (dk_at dksL_law_16 14 rfl rfl)
theorem dL_law_513 : decode cL_law 513 = .ok (.goto 1603, 3) := dk_167 6 67 (dk_at dksL_law_16 15 rfl rfl)
theorem dL_law_516 : decode cL_law 516 = .ok (.aload_n 1, 1) := dk_43 (dk_at dksL_law_16 18 rfl rfl)
theorem dL_law_517 : decode cL_law 517 = .ok (.aload_n 0, 1) := dk_42 (dk_at dksL_law_16 19 rfl rfl)
theorem dL_law_518 : decode cL_law 518 = .ok (.iload 4, 2) := dk_21 4 (dk_at dksL_law_16 20 rfl rfl)
theorem dL_law_520 : decode cL_law 520 = .ok (.iconst 1, 1) := dk_4 (dk_at dksL_law_16 22 rfl rfl)
theorem dL_law_521 : decode cL_law 521 = .ok (.iadd, 1) := dk_96 (dk_at dksL_law_16 23 rfl rfl)
theorem dL_law_522 : decode cL_law 522 = .ok (.iaload, 1) := dk_46 (dk_at dksL_law_17 0 rfl rfl)
theorem dL_law_523 : decode cL_law 523 = .ok (.aload_n 0, 1) := dk_42 (dk_at dksL_law_17 1 rfl rfl)
theorem dL_law_524 : decode cL_law 524 = .ok (.iload 4, 2) := dk_21 4 (dk_at dksL_law_17 2 rfl rfl)
theorem dL_law_526 : decode cL_law 526 = .ok (.iconst 2, 1) := dk_5 (dk_at dksL_law_17 4 rfl rfl)
theorem dL_law_527 : decode cL_law 527 = .ok (.iadd, 1) := dk_96 (dk_at dksL_law_17 5 rfl rfl)
theorem dL_law_528 : decode cL_law 528 = .ok (.iaload, 1) := dk_46 (dk_at dksL_law_17 6 rfl rfl)
theorem dL_law_529 : decode cL_law 529 = .ok (.aload_n 0, 1) := dk_42 (dk_at dksL_law_17 7 rfl rfl)
theorem dL_law_530 : decode cL_law 530 = .ok (.iload 4, 2) := dk_21 4 (dk_at dksL_law_17 8 rfl rfl)
theorem dL_law_532 : decode cL_law 532 = .ok (.iconst 3, 1) := dk_6 (dk_at dksL_law_17 10 rfl rfl)
theorem dL_law_533 : decode cL_law 533 = .ok (.iadd, 1) := dk_96 (dk_at dksL_law_17 11 rfl rfl)
theorem dL_law_534 : decode cL_law 534 = .ok (.iaload, 1) := dk_46 (dk_at dksL_law_17 12 rfl rfl)
theorem dL_law_535 : decode cL_law 535 = .ok (.aload_n 3, 1) := dk_45 (dk_at dksL_law_17 13 rfl rfl)
theorem dL_law_536 : decode cL_law 536 = .ok (.invokestatic 122, 3) := dk_184 0 122 (dk_at dksL_law_17 14 rfl rfl)
theorem dL_law_539 : decode cL_law 539 = .ok (.istore 5, 2) := dk_54 5 (dk_at dksL_law_17 17 rfl rfl)
theorem dL_law_541 : decode cL_law 541 = .ok (.aload_n 2, 1) := dk_44 (dk_at dksL_law_17 19 rfl rfl)
theorem dL_law_542 : decode cL_law 542 = .ok (.aload_n 0, 1) := dk_42 (dk_at dksL_law_17 20 rfl rfl)
theorem dL_law_543 : decode cL_law 543 = .ok (.iload 4, 2) := dk_21 4 (dk_at dksL_law_17 21 rfl rfl)
theorem dL_law_545 : decode cL_law 545 = .ok (.iconst 1, 1) := dk_4 (dk_at dksL_law_17 23 rfl rfl)
theorem dL_law_546 : decode cL_law 546 = .ok (.iadd, 1) := dk_96 (dk_at dksL_law_18 0 rfl rfl)
theorem dL_law_547 : decode cL_law 547 = .ok (.iaload, 1) := dk_46 (dk_at dksL_law_18 1 rfl rfl)
theorem dL_law_548 : decode cL_law 548 = .ok (.aload_n 0, 1) := dk_42 (dk_at dksL_law_18 2 rfl rfl)
theorem dL_law_549 : decode cL_law 549 = .ok (.iload 4, 2) := dk_21 4 (dk_at dksL_law_18 3 rfl rfl)
theorem dL_law_551 : decode cL_law 551 = .ok (.iconst 2, 1) := dk_5 (dk_at dksL_law_18 5 rfl rfl)
theorem dL_law_552 : decode cL_law 552 = .ok (.iadd, 1) := dk_96 (dk_at dksL_law_18 6 rfl rfl)
theorem dL_law_553 : decode cL_law 553 = .ok (.iaload, 1) := dk_46 (dk_at dksL_law_18 7 rfl rfl)
theorem dL_law_554 : decode cL_law 554 = .ok (.aload_n 0, 1) := dk_42 (dk_at dksL_law_18 8 rfl rfl)
theorem dL_law_555 : decode cL_law 555 = .ok (.iload 4, 2) := dk_21 4 (dk_at dksL_law_18 9 rfl rfl)
theorem dL_law_557 : decode cL_law 557 = .ok (.iconst 3, 1) := dk_6 (dk_at dksL_law_18 11 rfl rfl)
theorem dL_law_558 : decode cL_law 558 = .ok (.iadd, 1) := dk_96 (dk_at dksL_law_18 12 rfl rfl)
theorem dL_law_559 : decode cL_law 559 = .ok (.iaload, 1) := dk_46 (dk_at dksL_law_18 13 rfl rfl)
theorem dL_law_560 : decode cL_law 560 = .ok (.invokevirtual 125, 3) := dk_182 0 125 (dk_at dksL_law_18 14 rfl rfl)
theorem dL_law_563 : decode cL_law 563 = .ok (.istore 6, 2) := dk_54 6 (dk_at dksL_law_18 17 rfl rfl)
theorem dL_law_565 : decode cL_law 565 = .ok (.aload_n 2, 1) := dk_44 (dk_at dksL_law_18 19 rfl rfl)
theorem dL_law_566 : decode cL_law 566 = .ok (.invokevirtual 107, 3) := dk_182 0 107 (dk_at dksL_law_18 20 rfl rfl)
theorem dL_law_569 : decode cL_law 569 = .ok (.iload 5, 2) := dk_21 5 (dk_at dksL_law_19 0 rfl rfl)
theorem dL_law_571 : decode cL_law 571 = .ok (.if_icmp .eq 5, 3) := dk_159 0 5 (dk_at dksL_law_19 2 rfl rfl)
theorem dL_law_574 : decode cL_law 574 = .ok (.iconst 0, 1) := dk_3 (dk_at dksL_law_19 5 rfl rfl)
theorem dL_law_575 : decode cL_law 575 = .ok (.ireturn, 1) := dk_172 (dk_at dksL_law_19 6 rfl rfl)
theorem dL_law_576 : decode cL_law 576 = .ok (.iload 5, 2) := dk_21 5 (dk_at dksL_law_19 7 rfl rfl)
theorem dL_law_578 : decode cL_law 578 = .ok (.ifCond .ne 15, 3) := dk_154 0 15 (dk_at dksL_law_19 9 rfl rfl)
theorem dL_law_581 : decode cL_law 581 = .ok (.aload_n 3, 1) := dk_45 (dk_at dksL_law_19 12 rfl rfl)
theorem dL_law_582 : decode cL_law 582 = .ok (.iconst 0, 1) := dk_3 (dk_at dksL_law_19 13 rfl rfl)
theorem dL_law_583 : decode cL_law 583 = .ok (.laload, 1) := dk_47 (dk_at dksL_law_19 14 rfl rfl)
theorem dL_law_584 : decode cL_law 584 = .ok (.iload 6, 2) := dk_21 6 (dk_at dksL_law_19 15 rfl rfl)
theorem dL_law_586 : decode cL_law 586 = .ok (.i2l, 1) := dk_133 (dk_at dksL_law_19 17 rfl rfl)
theorem dL_law_587 : decode cL_law 587 = .ok (.lcmp, 1) := dk_148 (dk_at dksL_law_19 18 rfl rfl)
theorem dL_law_588 : decode cL_law 588 = .ok (.ifCond .eq 5, 3) := dk_153 0 5 (dk_at dksL_law_19 19 rfl rfl)
theorem dL_law_591 : decode cL_law 591 = .ok (.iconst 0, 1) := dk_3 (dk_at dksL_law_19 22 rfl rfl)
theorem dL_law_592 : decode cL_law 592 = .ok (.ireturn, 1) := dk_172 (dk_at dksL_law_19 23 rfl rfl)
theorem dL_law_593 : decode cL_law 593 = .ok (.goto 1523, 3) := dk_167 5 243 (dk_at dksL_law_20 0 rfl rfl)
theorem dL_law_596 : decode cL_law 596 = .ok (.aload_n 1, 1) := dk_43 (dk_at dksL_law_20 3 rfl rfl)
theorem dL_law_597 : decode cL_law 597 = .ok (.invokevirtual 126, 3) := dk_182 0 126 (dk_at dksL_law_20 4 rfl rfl)
theorem dL_law_600 : decode cL_law 600 = .ok (.aload_n 2, 1) := dk_44 (dk_at dksL_law_20 7 rfl rfl)
theorem dL_law_601 : decode cL_law 601 = .ok (.invokevirtual 129, 3) := dk_182 0 129 (dk_at dksL_law_20 8 rfl rfl)
theorem dL_law_604 : decode cL_law 604 = .ok (.if_icmp .eq 1512, 3) := dk_159 5 232 (dk_at dksL_law_20 11 rfl rfl)
theorem dL_law_607 : decode cL_law 607 = .ok (.iconst 0, 1) := dk_3 (dk_at dksL_law_20 14 rfl rfl)
theorem dL_law_608 : decode cL_law 608 = .ok (.ireturn, 1) := dk_172 (dk_at dksL_law_20 15 rfl rfl)
theorem dL_law_609 : decode cL_law 609 = .ok (.aload_n 1, 1) := dk_43 (dk_at dksL_law_20 16 rfl rfl)
theorem dL_law_610 : decode cL_law 610 = .ok (.invokevirtual 130, 3) := dk_182 0 130 (dk_at dksL_law_20 17 rfl rfl)
theorem dL_law_613 : decode cL_law 613 = .ok (.aload_n 2, 1) := dk_44 (dk_at dksL_law_20 20 rfl rfl)
theorem dL_law_614 : decode cL_law 614 = .ok (.invokevirtual 133, 3) := dk_182 0 133 (dk_at dksL_law_20 21 rfl rfl)
theorem dL_law_617 : decode cL_law 617 = .ok (.if_icmp .eq 1499, 3) := dk_159 5 219 (dk_at dksL_law_21 0 rfl rfl)
theorem dL_law_620 : decode cL_law 620 = .ok (.iconst 0, 1) := dk_3 (dk_at dksL_law_21 3 rfl rfl)
theorem dL_law_621 : decode cL_law 621 = .ok (.ireturn, 1) := dk_172 (dk_at dksL_law_21 4 rfl rfl)
theorem dL_law_622 : decode cL_law 622 = .ok (.aload_n 1, 1) := dk_43 (dk_at dksL_law_21 5 rfl rfl)
theorem dL_law_623 : decode cL_law 623 = .ok (.aload_n 0, 1) := dk_42 (dk_at dksL_law_21 6 rfl rfl)
theorem dL_law_624 : decode cL_law 624 = .ok (.iload 4, 2) := dk_21 4 (dk_at dksL_law_21 7 rfl rfl)
theorem dL_law_626 : decode cL_law 626 = .ok (.iconst 1, 1) := dk_4 (dk_at dksL_law_21 9 rfl rfl)
theorem dL_law_627 : decode cL_law 627 = .ok (.iadd, 1) := dk_96 (dk_at dksL_law_21 10 rfl rfl)
theorem dL_law_628 : decode cL_law 628 = .ok (.iaload, 1) := dk_46 (dk_at dksL_law_21 11 rfl rfl)
theorem dL_law_629 : decode cL_law 629 = .ok (.aload_n 0, 1) := dk_42 (dk_at dksL_law_21 12 rfl rfl)
theorem dL_law_630 : decode cL_law 630 = .ok (.iload 4, 2) := dk_21 4 (dk_at dksL_law_21 13 rfl rfl)
theorem dL_law_632 : decode cL_law 632 = .ok (.iconst 2, 1) := dk_5 (dk_at dksL_law_21 15 rfl rfl)
theorem dL_law_633 : decode cL_law 633 = .ok (.iadd, 1) := dk_96 (dk_at dksL_law_21 16 rfl rfl)
theorem dL_law_634 : decode cL_law 634 = .ok (.iaload, 1) := dk_46 (dk_at dksL_law_21 17 rfl rfl)
theorem dL_law_635 : decode cL_law 635 = .ok (.aload_n 0, 1) := dk_42 (dk_at dksL_law_21 18 rfl rfl)
theorem dL_law_636 : decode cL_law 636 = .ok (.iload 4, 2) := dk_21 4 (dk_at dksL_law_21 19 rfl rfl)
theorem dL_law_638 : decode cL_law 638 = .ok (.iconst 3, 1) := dk_6 (dk_at dksL_law_21 21 rfl rfl)
theorem dL_law_639 : decode cL_law 639 = .ok (.iadd, 1) := dk_96 (dk_at dksL_law_21 22 rfl rfl)
theorem dL_law_640 : decode cL_law 640 = .ok (.iaload, 1) := dk_46 (dk_at dksL_law_21 23 rfl rfl)
theorem dL_law_641 : decode cL_law 641 = .ok (.aload_n 3, 1) := dk_45 (dk_at dksL_law_22 0 rfl rfl)
theorem dL_law_642 : decode cL_law 642 = .ok (.invokestatic 134, 3) := dk_184 0 134 (dk_at dksL_law_22 1 rfl rfl)
theorem dL_law_645 : decode cL_law 645 = .ok (.istore 5, 2) := dk_54 5 (dk_at dksL_law_22 4 rfl rfl)
theorem dL_law_647 : decode cL_law 647 = .ok (.aload_n 2, 1) := dk_44 (dk_at dksL_law_22 6 rfl rfl)
theorem dL_law_648 : decode cL_law 648 = .ok (.aload_n 0, 1) := dk_42 (dk_at dksL_law_22 7 rfl rfl)
theorem dL_law_649 : decode cL_law 649 = .ok (.iload 4, 2) := dk_21 4 (dk_at dksL_law_22 8 rfl rfl)
theorem dL_law_651 : decode cL_law 651 = .ok (.iconst 1, 1) := dk_4 (dk_at dksL_law_22 10 rfl rfl)
theorem dL_law_652 : decode cL_law 652 = .ok (.iadd, 1) := dk_96 (dk_at dksL_law_22 11 rfl rfl)
theorem dL_law_653 : decode cL_law 653 = .ok (.iaload, 1) := dk_46 (dk_at dksL_law_22 12 rfl rfl)
theorem dL_law_654 : decode cL_law 654 = .ok (.aload_n 0, 1) := dk_42 (dk_at dksL_law_22 13 rfl rfl)
theorem dL_law_655 : decode cL_law 655 = .ok (.iload 4, 2) := dk_21 4 (dk_at dksL_law_22 14 rfl rfl)
theorem dL_law_657 : decode cL_law 657 = .ok (.iconst 2, 1) := dk_5 (dk_at dksL_law_22 16 rfl rfl)
theorem dL_law_658 : decode cL_law 658 = .ok (.iadd, 1) := dk_96 (dk_at dksL_law_22 17 rfl rfl)
theorem dL_law_659 : decode cL_law 659 = .ok (.iaload, 1) := dk_46 (dk_at dksL_law_22 18 rfl rfl)
theorem dL_law_660 : decode cL_law 660 = .ok (.aload_n 0, 1) := dk_42 (dk_at dksL_law_22 19 rfl rfl)
theorem dL_law_661 : decode cL_law 661 = .ok (.iload 4, 2) := dk_21 4 (dk_at dksL_law_22 20 rfl rfl)
theorem dL_law_663 : decode cL_law 663 = .ok (.iconst 3, 1) := dk_6 (dk_at dksL_law_22 22 rfl rfl)
theorem dL_law_664 : decode cL_law 664 = .ok (.iadd, 1) := dk_96 (dk_at dksL_law_22 23 rfl rfl)
theorem dL_law_665 : decode cL_law 665 = .ok (.iaload, 1) := dk_46 (dk_at dksL_law_23 0 rfl rfl)
theorem dL_law_666 : decode cL_law 666 = .ok (.invokevirtual 136, 3) := dk_182 0 136 (dk_at dksL_law_23 1 rfl rfl)
theorem dL_law_669 : decode cL_law 669 = .ok (.istore 6, 2) := dk_54 6 (dk_at dksL_law_23 4 rfl rfl)
theorem dL_law_671 : decode cL_law 671 = .ok (.aload_n 2, 1) := dk_44 (dk_at dksL_law_23 6 rfl rfl)
theorem dL_law_672 : decode cL_law 672 = .ok (.invokevirtual 107, 3) := dk_182 0 107 (dk_at dksL_law_23 7 rfl rfl)
theorem dL_law_675 : decode cL_law 675 = .ok (.iload 5, 2) := dk_21 5 (dk_at dksL_law_23 10 rfl rfl)
theorem dL_law_677 : decode cL_law 677 = .ok (.if_icmp .eq 5, 3) := dk_159 0 5 (dk_at dksL_law_23 12 rfl rfl)
theorem dL_law_680 : decode cL_law 680 = .ok (.iconst 0, 1) := dk_3 (dk_at dksL_law_23 15 rfl rfl)
theorem dL_law_681 : decode cL_law 681 = .ok (.ireturn, 1) := dk_172 (dk_at dksL_law_23 16 rfl rfl)
theorem dL_law_682 : decode cL_law 682 = .ok (.iload 5, 2) := dk_21 5 (dk_at dksL_law_23 17 rfl rfl)
theorem dL_law_684 : decode cL_law 684 = .ok (.ifCond .ne 15, 3) := dk_154 0 15 (dk_at dksL_law_23 19 rfl rfl)
theorem dL_law_687 : decode cL_law 687 = .ok (.aload_n 3, 1) := dk_45 (dk_at dksL_law_23 22 rfl rfl)
theorem dL_law_688 : decode cL_law 688 = .ok (.iconst 0, 1) := dk_3 (dk_at dksL_law_23 23 rfl rfl)
theorem dL_law_689 : decode cL_law 689 = .ok (.laload, 1) := dk_47 (dk_at dksL_law_24 0 rfl rfl)
theorem dL_law_690 : decode cL_law 690 = .ok (.iload 6, 2) := dk_21 6 (dk_at dksL_law_24 1 rfl rfl)
theorem dL_law_692 : decode cL_law 692 = .ok (.i2l, 1) := dk_133 (dk_at dksL_law_24 3 rfl rfl)
theorem dL_law_693 : decode cL_law 693 = .ok (.lcmp, 1) := dk_148 (dk_at dksL_law_24 4 rfl rfl)
theorem dL_law_694 : decode cL_law 694 = .ok (.ifCond .eq 5, 3) := dk_153 0 5 (dk_at dksL_law_24 5 rfl rfl)
theorem dL_law_697 : decode cL_law 697 = .ok (.iconst 0, 1) := dk_3 (dk_at dksL_law_24 8 rfl rfl)
theorem dL_law_698 : decode cL_law 698 = .ok (.ireturn, 1) := dk_172 (dk_at dksL_law_24 9 rfl rfl)
theorem dL_law_699 : decode cL_law 699 = .ok (.goto 1417, 3) := dk_167 5 137 (dk_at dksL_law_24 10 rfl rfl)
theorem dL_law_702 : decode cL_law 702 = .ok (.aload_n 1, 1) := dk_43 (dk_at dksL_law_24 13 rfl rfl)
theorem dL_law_703 : decode cL_law 703 = .ok (.aload_n 0, 1) := dk_42 (dk_at dksL_law_24 14 rfl rfl)
theorem dL_law_704 : decode cL_law 704 = .ok (.iload 4, 2) := dk_21 4 (dk_at dksL_law_24 15 rfl rfl)
theorem dL_law_706 : decode cL_law 706 = .ok (.iconst 1, 1) := dk_4 (dk_at dksL_law_24 17 rfl rfl)
theorem dL_law_707 : decode cL_law 707 = .ok (.iadd, 1) := dk_96 (dk_at dksL_law_24 18 rfl rfl)
theorem dL_law_708 : decode cL_law 708 = .ok (.iaload, 1) := dk_46 (dk_at dksL_law_24 19 rfl rfl)
theorem dL_law_709 : decode cL_law 709 = .ok (.aload_n 0, 1) := dk_42 (dk_at dksL_law_24 20 rfl rfl)
theorem dL_law_710 : decode cL_law 710 = .ok (.iload 4, 2) := dk_21 4 (dk_at dksL_law_24 21 rfl rfl)
theorem dL_law_712 : decode cL_law 712 = .ok (.iconst 2, 1) := dk_5 (dk_at dksL_law_24 23 rfl rfl)
theorem dL_law_713 : decode cL_law 713 = .ok (.iadd, 1) := dk_96 (dk_at dksL_law_25 0 rfl rfl)
theorem dL_law_714 : decode cL_law 714 = .ok (.iaload, 1) := dk_46 (dk_at dksL_law_25 1 rfl rfl)
theorem dL_law_715 : decode cL_law 715 = .ok (.aload_n 0, 1) := dk_42 (dk_at dksL_law_25 2 rfl rfl)
theorem dL_law_716 : decode cL_law 716 = .ok (.iload 4, 2) := dk_21 4 (dk_at dksL_law_25 3 rfl rfl)
theorem dL_law_718 : decode cL_law 718 = .ok (.iconst 3, 1) := dk_6 (dk_at dksL_law_25 5 rfl rfl)
theorem dL_law_719 : decode cL_law 719 = .ok (.iadd, 1) := dk_96 (dk_at dksL_law_25 6 rfl rfl)
theorem dL_law_720 : decode cL_law 720 = .ok (.iaload, 1) := dk_46 (dk_at dksL_law_25 7 rfl rfl)
theorem dL_law_721 : decode cL_law 721 = .ok (.aload_n 3, 1) := dk_45 (dk_at dksL_law_25 8 rfl rfl)
theorem dL_law_722 : decode cL_law 722 = .ok (.invokestatic 137, 3) := dk_184 0 137 (dk_at dksL_law_25 9 rfl rfl)
theorem dL_law_725 : decode cL_law 725 = .ok (.istore 5, 2) := dk_54 5 (dk_at dksL_law_25 12 rfl rfl)
theorem dL_law_727 : decode cL_law 727 = .ok (.aload_n 2, 1) := dk_44 (dk_at dksL_law_25 14 rfl rfl)
theorem dL_law_728 : decode cL_law 728 = .ok (.aload_n 0, 1) := dk_42 (dk_at dksL_law_25 15 rfl rfl)
theorem dL_law_729 : decode cL_law 729 = .ok (.iload 4, 2) := dk_21 4 (dk_at dksL_law_25 16 rfl rfl)
theorem dL_law_731 : decode cL_law 731 = .ok (.iconst 1, 1) := dk_4 (dk_at dksL_law_25 18 rfl rfl)
theorem dL_law_732 : decode cL_law 732 = .ok (.iadd, 1) := dk_96 (dk_at dksL_law_25 19 rfl rfl)
theorem dL_law_733 : decode cL_law 733 = .ok (.iaload, 1) := dk_46 (dk_at dksL_law_25 20 rfl rfl)
theorem dL_law_734 : decode cL_law 734 = .ok (.aload_n 0, 1) := dk_42 (dk_at dksL_law_25 21 rfl rfl)
theorem dL_law_735 : decode cL_law 735 = .ok (.iload 4, 2) := dk_21 4 (dk_at dksL_law_25 22 rfl rfl)
theorem dL_law_737 : decode cL_law 737 = .ok (.iconst 2, 1) := dk_5 (dk_at dksL_law_26 0 rfl rfl)
theorem dL_law_738 : decode cL_law 738 = .ok (.iadd, 1) := dk_96 (dk_at dksL_law_26 1 rfl rfl)
theorem dL_law_739 : decode cL_law 739 = .ok (.iaload, 1) := dk_46 (dk_at dksL_law_26 2 rfl rfl)
theorem dL_law_740 : decode cL_law 740 = .ok (.aload_n 0, 1) := dk_42 (dk_at dksL_law_26 3 rfl rfl)
theorem dL_law_741 : decode cL_law 741 = .ok (.iload 4, 2) := dk_21 4 (dk_at dksL_law_26 4 rfl rfl)
theorem dL_law_743 : decode cL_law 743 = .ok (.iconst 3, 1) := dk_6 (dk_at dksL_law_26 6 rfl rfl)
theorem dL_law_744 : decode cL_law 744 = .ok (.iadd, 1) := dk_96 (dk_at dksL_law_26 7 rfl rfl)
theorem dL_law_745 : decode cL_law 745 = .ok (.iaload, 1) := dk_46 (dk_at dksL_law_26 8 rfl rfl)
theorem dL_law_746 : decode cL_law 746 = .ok (.invokevirtual 139, 3) := dk_182 0 139 (dk_at dksL_law_26 9 rfl rfl)
theorem dL_law_749 : decode cL_law 749 = .ok (.istore 6, 2) := dk_54 6 (dk_at dksL_law_26 12 rfl rfl)
theorem dL_law_751 : decode cL_law 751 = .ok (.aload_n 2, 1) := dk_44 (dk_at dksL_law_26 14 rfl rfl)
theorem dL_law_752 : decode cL_law 752 = .ok (.invokevirtual 107, 3) := dk_182 0 107 (dk_at dksL_law_26 15 rfl rfl)
theorem dL_law_755 : decode cL_law 755 = .ok (.iload 5, 2) := dk_21 5 (dk_at dksL_law_26 18 rfl rfl)
theorem dL_law_757 : decode cL_law 757 = .ok (.if_icmp .eq 5, 3) := dk_159 0 5 (dk_at dksL_law_26 20 rfl rfl)
theorem dL_law_760 : decode cL_law 760 = .ok (.iconst 0, 1) := dk_3 (dk_at dksL_law_26 23 rfl rfl)
theorem dL_law_761 : decode cL_law 761 = .ok (.ireturn, 1) := dk_172 (dk_at dksL_law_27 0 rfl rfl)
theorem dL_law_762 : decode cL_law 762 = .ok (.iload 5, 2) := dk_21 5 (dk_at dksL_law_27 1 rfl rfl)
theorem dL_law_764 : decode cL_law 764 = .ok (.ifCond .ne 15, 3) := dk_154 0 15 (dk_at dksL_law_27 3 rfl rfl)
theorem dL_law_767 : decode cL_law 767 = .ok (.aload_n 3, 1) := dk_45 (dk_at dksL_law_27 6 rfl rfl)
theorem dL_law_768 : decode cL_law 768 = .ok (.iconst 0, 1) := dk_3 (dk_at dksL_law_27 7 rfl rfl)
theorem dL_law_769 : decode cL_law 769 = .ok (.laload, 1) := dk_47 (dk_at dksL_law_27 8 rfl rfl)
theorem dL_law_770 : decode cL_law 770 = .ok (.iload 6, 2) := dk_21 6 (dk_at dksL_law_27 9 rfl rfl)
theorem dL_law_772 : decode cL_law 772 = .ok (.i2l, 1) := dk_133 (dk_at dksL_law_27 11 rfl rfl)
theorem dL_law_773 : decode cL_law 773 = .ok (.lcmp, 1) := dk_148 (dk_at dksL_law_27 12 rfl rfl)
theorem dL_law_774 : decode cL_law 774 = .ok (.ifCond .eq 5, 3) := dk_153 0 5 (dk_at dksL_law_27 13 rfl rfl)
theorem dL_law_777 : decode cL_law 777 = .ok (.iconst 0, 1) := dk_3 (dk_at dksL_law_27 16 rfl rfl)
theorem dL_law_778 : decode cL_law 778 = .ok (.ireturn, 1) := dk_172 (dk_at dksL_law_27 17 rfl rfl)
theorem dL_law_779 : decode cL_law 779 = .ok (.goto 1337, 3) := dk_167 5 57 (dk_at dksL_law_27 18 rfl rfl)
theorem dL_law_782 : decode cL_law 782 = .ok (.aload_n 1, 1) := dk_43 (dk_at dksL_law_27 21 rfl rfl)
theorem dL_law_783 : decode cL_law 783 = .ok (.aload_n 0, 1) := dk_42 (dk_at dksL_law_27 22 rfl rfl)
theorem dL_law_784 : decode cL_law 784 = .ok (.iload 4, 2) := dk_21 4 (dk_at dksL_law_28 0 rfl rfl)
theorem dL_law_786 : decode cL_law 786 = .ok (.iconst 1, 1) := dk_4 (dk_at dksL_law_28 2 rfl rfl)
theorem dL_law_787 : decode cL_law 787 = .ok (.iadd, 1) := dk_96 (dk_at dksL_law_28 3 rfl rfl)
theorem dL_law_788 : decode cL_law 788 = .ok (.iaload, 1) := dk_46 (dk_at dksL_law_28 4 rfl rfl)
theorem dL_law_789 : decode cL_law 789 = .ok (.aload_n 0, 1) := dk_42 (dk_at dksL_law_28 5 rfl rfl)
theorem dL_law_790 : decode cL_law 790 = .ok (.iload 4, 2) := dk_21 4 (dk_at dksL_law_28 6 rfl rfl)
theorem dL_law_792 : decode cL_law 792 = .ok (.iconst 2, 1) := dk_5 (dk_at dksL_law_28 8 rfl rfl)
theorem dL_law_793 : decode cL_law 793 = .ok (.iadd, 1) := dk_96 (dk_at dksL_law_28 9 rfl rfl)
theorem dL_law_794 : decode cL_law 794 = .ok (.iaload, 1) := dk_46 (dk_at dksL_law_28 10 rfl rfl)
theorem dL_law_795 : decode cL_law 795 = .ok (.aload_n 3, 1) := dk_45 (dk_at dksL_law_28 11 rfl rfl)
theorem dL_law_796 : decode cL_law 796 = .ok (.invokestatic 140, 3) := dk_184 0 140 (dk_at dksL_law_28 12 rfl rfl)
theorem dL_law_799 : decode cL_law 799 = .ok (.istore 5, 2) := dk_54 5 (dk_at dksL_law_28 15 rfl rfl)
theorem dL_law_801 : decode cL_law 801 = .ok (.aload_n 2, 1) := dk_44 (dk_at dksL_law_28 17 rfl rfl)
theorem dL_law_802 : decode cL_law 802 = .ok (.aload_n 0, 1) := dk_42 (dk_at dksL_law_28 18 rfl rfl)
theorem dL_law_803 : decode cL_law 803 = .ok (.iload 4, 2) := dk_21 4 (dk_at dksL_law_28 19 rfl rfl)
theorem dL_law_805 : decode cL_law 805 = .ok (.iconst 1, 1) := dk_4 (dk_at dksL_law_28 21 rfl rfl)
theorem dL_law_806 : decode cL_law 806 = .ok (.iadd, 1) := dk_96 (dk_at dksL_law_28 22 rfl rfl)
theorem dL_law_807 : decode cL_law 807 = .ok (.iaload, 1) := dk_46 (dk_at dksL_law_28 23 rfl rfl)
theorem dL_law_808 : decode cL_law 808 = .ok (.aload_n 0, 1) := dk_42 (dk_at dksL_law_29 0 rfl rfl)
theorem dL_law_809 : decode cL_law 809 = .ok (.iload 4, 2) := dk_21 4 (dk_at dksL_law_29 1 rfl rfl)
theorem dL_law_811 : decode cL_law 811 = .ok (.iconst 2, 1) := dk_5 (dk_at dksL_law_29 3 rfl rfl)
theorem dL_law_812 : decode cL_law 812 = .ok (.iadd, 1) := dk_96 (dk_at dksL_law_29 4 rfl rfl)
theorem dL_law_813 : decode cL_law 813 = .ok (.iaload, 1) := dk_46 (dk_at dksL_law_29 5 rfl rfl)
theorem dL_law_814 : decode cL_law 814 = .ok (.invokevirtual 142, 3) := dk_182 0 142 (dk_at dksL_law_29 6 rfl rfl)
theorem dL_law_817 : decode cL_law 817 = .ok (.istore 6, 2) := dk_54 6 (dk_at dksL_law_29 9 rfl rfl)
theorem dL_law_819 : decode cL_law 819 = .ok (.aload_n 2, 1) := dk_44 (dk_at dksL_law_29 11 rfl rfl)
theorem dL_law_820 : decode cL_law 820 = .ok (.invokevirtual 107, 3) := dk_182 0 107 (dk_at dksL_law_29 12 rfl rfl)
theorem dL_law_823 : decode cL_law 823 = .ok (.iload 5, 2) := dk_21 5 (dk_at dksL_law_29 15 rfl rfl)
theorem dL_law_825 : decode cL_law 825 = .ok (.if_icmp .eq 5, 3) := dk_159 0 5 (dk_at dksL_law_29 17 rfl rfl)
theorem dL_law_828 : decode cL_law 828 = .ok (.iconst 0, 1) := dk_3 (dk_at dksL_law_29 20 rfl rfl)
theorem dL_law_829 : decode cL_law 829 = .ok (.ireturn, 1) := dk_172 (dk_at dksL_law_29 21 rfl rfl)
theorem dL_law_830 : decode cL_law 830 = .ok (.iload 5, 2) := dk_21 5 (dk_at dksL_law_29 22 rfl rfl)
theorem dL_law_832 : decode cL_law 832 = .ok (.ifCond .ne 15, 3) := dk_154 0 15 (dk_at dksL_law_30 0 rfl rfl)
theorem dL_law_835 : decode cL_law 835 = .ok (.aload_n 3, 1) := dk_45 (dk_at dksL_law_30 3 rfl rfl)
theorem dL_law_836 : decode cL_law 836 = .ok (.iconst 0, 1) := dk_3 (dk_at dksL_law_30 4 rfl rfl)
theorem dL_law_837 : decode cL_law 837 = .ok (.laload, 1) := dk_47 (dk_at dksL_law_30 5 rfl rfl)
theorem dL_law_838 : decode cL_law 838 = .ok (.iload 6, 2) := dk_21 6 (dk_at dksL_law_30 6 rfl rfl)
theorem dL_law_840 : decode cL_law 840 = .ok (.i2l, 1) := dk_133 (dk_at dksL_law_30 8 rfl rfl)
theorem dL_law_841 : decode cL_law 841 = .ok (.lcmp, 1) := dk_148 (dk_at dksL_law_30 9 rfl rfl)
theorem dL_law_842 : decode cL_law 842 = .ok (.ifCond .eq 5, 3) := dk_153 0 5 (dk_at dksL_law_30 10 rfl rfl)
theorem dL_law_845 : decode cL_law 845 = .ok (.iconst 0, 1) := dk_3 (dk_at dksL_law_30 13 rfl rfl)
theorem dL_law_846 : decode cL_law 846 = .ok (.ireturn, 1) := dk_172 (dk_at dksL_law_30 14 rfl rfl)
theorem dL_law_847 : decode cL_law 847 = .ok (.goto 1269, 3) := dk_167 4 245 (dk_at dksL_law_30 15 rfl rfl)
theorem dL_law_850 : decode cL_law 850 = .ok (.aload_n 1, 1) := dk_43 (dk_at dksL_law_30 18 rfl rfl)
theorem dL_law_851 : decode cL_law 851 = .ok (.aload_n 0, 1) := dk_42 (dk_at dksL_law_30 19 rfl rfl)
theorem dL_law_852 : decode cL_law 852 = .ok (.iload 4, 2) := dk_21 4 (dk_at dksL_law_30 20 rfl rfl)
theorem dL_law_854 : decode cL_law 854 = .ok (.iconst 1, 1) := dk_4 (dk_at dksL_law_30 22 rfl rfl)
theorem dL_law_855 : decode cL_law 855 = .ok (.iadd, 1) := dk_96 (dk_at dksL_law_30 23 rfl rfl)
theorem dL_law_856 : decode cL_law 856 = .ok (.iaload, 1) := dk_46 (dk_at dksL_law_31 0 rfl rfl)
theorem dL_law_857 : decode cL_law 857 = .ok (.aload_n 0, 1) := dk_42 (dk_at dksL_law_31 1 rfl rfl)
theorem dL_law_858 : decode cL_law 858 = .ok (.iload 4, 2) := dk_21 4 (dk_at dksL_law_31 2 rfl rfl)
theorem dL_law_860 : decode cL_law 860 = .ok (.iconst 2, 1) := dk_5 (dk_at dksL_law_31 4 rfl rfl)
theorem dL_law_861 : decode cL_law 861 = .ok (.iadd, 1) := dk_96 (dk_at dksL_law_31 5 rfl rfl)
theorem dL_law_862 : decode cL_law 862 = .ok (.iaload, 1) := dk_46 (dk_at dksL_law_31 6 rfl rfl)
theorem dL_law_863 : decode cL_law 863 = .ok (.aload_n 0, 1) := dk_42 (dk_at dksL_law_31 7 rfl rfl)
theorem dL_law_864 : decode cL_law 864 = .ok (.iload 4, 2) := dk_21 4 (dk_at dksL_law_31 8 rfl rfl)
theorem dL_law_866 : decode cL_law 866 = .ok (.iconst 3, 1) := dk_6 (dk_at dksL_law_31 10 rfl rfl)
theorem dL_law_867 : decode cL_law 867 = .ok (.iadd, 1) := dk_96 (dk_at dksL_law_31 11 rfl rfl)
theorem dL_law_868 : decode cL_law 868 = .ok (.iaload, 1) := dk_46 (dk_at dksL_law_31 12 rfl rfl)
theorem dL_law_869 : decode cL_law 869 = .ok (.ifCond .eq 7, 3) := dk_153 0 7 (dk_at dksL_law_31 13 rfl rfl)
theorem dL_law_872 : decode cL_law 872 = .ok (.iconst 1, 1) := dk_4 (dk_at dksL_law_31 16 rfl rfl)
theorem dL_law_873 : decode cL_law 873 = .ok (.goto 4, 3) := dk_167 0 4 (dk_at dksL_law_31 17 rfl rfl)
theorem dL_law_876 : decode cL_law 876 = .ok (.iconst 0, 1) := dk_3 (dk_at dksL_law_31 20 rfl rfl)
theorem dL_law_877 : decode cL_law 877 = .ok (.aload_n 3, 1) := dk_45 (dk_at dksL_law_31 21 rfl rfl)
theorem dL_law_878 : decode cL_law 878 = .ok (.invokestatic 143, 3) := dk_184 0 143 (dk_at dksL_law_32 0 rfl rfl)
theorem dL_law_881 : decode cL_law 881 = .ok (.istore 5, 2) := dk_54 5 (dk_at dksL_law_32 3 rfl rfl)
theorem dL_law_883 : decode cL_law 883 = .ok (.aload_n 2, 1) := dk_44 (dk_at dksL_law_32 5 rfl rfl)
theorem dL_law_884 : decode cL_law 884 = .ok (.aload_n 0, 1) := dk_42 (dk_at dksL_law_32 6 rfl rfl)
theorem dL_law_885 : decode cL_law 885 = .ok (.iload 4, 2) := dk_21 4 (dk_at dksL_law_32 7 rfl rfl)
theorem dL_law_887 : decode cL_law 887 = .ok (.iconst 1, 1) := dk_4 (dk_at dksL_law_32 9 rfl rfl)
theorem dL_law_888 : decode cL_law 888 = .ok (.iadd, 1) := dk_96 (dk_at dksL_law_32 10 rfl rfl)
theorem dL_law_889 : decode cL_law 889 = .ok (.iaload, 1) := dk_46 (dk_at dksL_law_32 11 rfl rfl)
theorem dL_law_890 : decode cL_law 890 = .ok (.aload_n 0, 1) := dk_42 (dk_at dksL_law_32 12 rfl rfl)
theorem dL_law_891 : decode cL_law 891 = .ok (.iload 4, 2) := dk_21 4 (dk_at dksL_law_32 13 rfl rfl)
theorem dL_law_893 : decode cL_law 893 = .ok (.iconst 2, 1) := dk_5 (dk_at dksL_law_32 15 rfl rfl)
theorem dL_law_894 : decode cL_law 894 = .ok (.iadd, 1) := dk_96 (dk_at dksL_law_32 16 rfl rfl)
theorem dL_law_895 : decode cL_law 895 = .ok (.iaload, 1) := dk_46 (dk_at dksL_law_32 17 rfl rfl)
theorem dL_law_896 : decode cL_law 896 = .ok (.aload_n 0, 1) := dk_42 (dk_at dksL_law_32 18 rfl rfl)
theorem dL_law_897 : decode cL_law 897 = .ok (.iload 4, 2) := dk_21 4 (dk_at dksL_law_32 19 rfl rfl)
theorem dL_law_899 : decode cL_law 899 = .ok (.iconst 3, 1) := dk_6 (dk_at dksL_law_32 21 rfl rfl)
theorem dL_law_900 : decode cL_law 900 = .ok (.iadd, 1) := dk_96 (dk_at dksL_law_32 22 rfl rfl)
theorem dL_law_901 : decode cL_law 901 = .ok (.iaload, 1) := dk_46 (dk_at dksL_law_32 23 rfl rfl)
theorem dL_law_902 : decode cL_law 902 = .ok (.ifCond .eq 7, 3) := dk_153 0 7 (dk_at dksL_law_33 0 rfl rfl)
theorem dL_law_905 : decode cL_law 905 = .ok (.iconst 1, 1) := dk_4 (dk_at dksL_law_33 3 rfl rfl)
theorem dL_law_906 : decode cL_law 906 = .ok (.goto 4, 3) := dk_167 0 4 (dk_at dksL_law_33 4 rfl rfl)
theorem dL_law_909 : decode cL_law 909 = .ok (.iconst 0, 1) := dk_3 (dk_at dksL_law_33 7 rfl rfl)
theorem dL_law_910 : decode cL_law 910 = .ok (.invokevirtual 146, 3) := dk_182 0 146 (dk_at dksL_law_33 8 rfl rfl)
theorem dL_law_913 : decode cL_law 913 = .ok (.istore 6, 2) := dk_54 6 (dk_at dksL_law_33 11 rfl rfl)
theorem dL_law_915 : decode cL_law 915 = .ok (.aload_n 2, 1) := dk_44 (dk_at dksL_law_33 13 rfl rfl)
theorem dL_law_916 : decode cL_law 916 = .ok (.invokevirtual 107, 3) := dk_182 0 107 (dk_at dksL_law_33 14 rfl rfl)
theorem dL_law_919 : decode cL_law 919 = .ok (.iload 5, 2) := dk_21 5 (dk_at dksL_law_33 17 rfl rfl)
theorem dL_law_921 : decode cL_law 921 = .ok (.if_icmp .eq 5, 3) := dk_159 0 5 (dk_at dksL_law_33 19 rfl rfl)
theorem dL_law_924 : decode cL_law 924 = .ok (.iconst 0, 1) := dk_3 (dk_at dksL_law_33 22 rfl rfl)
theorem dL_law_925 : decode cL_law 925 = .ok (.ireturn, 1) := dk_172 (dk_at dksL_law_33 23 rfl rfl)
theorem dL_law_926 : decode cL_law 926 = .ok (.iload 5, 2) := dk_21 5 (dk_at dksL_law_34 0 rfl rfl)
theorem dL_law_928 : decode cL_law 928 = .ok (.ifCond .ne 15, 3) := dk_154 0 15 (dk_at dksL_law_34 2 rfl rfl)
theorem dL_law_931 : decode cL_law 931 = .ok (.aload_n 3, 1) := dk_45 (dk_at dksL_law_34 5 rfl rfl)
theorem dL_law_932 : decode cL_law 932 = .ok (.iconst 0, 1) := dk_3 (dk_at dksL_law_34 6 rfl rfl)
theorem dL_law_933 : decode cL_law 933 = .ok (.laload, 1) := dk_47 (dk_at dksL_law_34 7 rfl rfl)
theorem dL_law_934 : decode cL_law 934 = .ok (.iload 6, 2) := dk_21 6 (dk_at dksL_law_34 8 rfl rfl)
theorem dL_law_936 : decode cL_law 936 = .ok (.i2l, 1) := dk_133 (dk_at dksL_law_34 10 rfl rfl)
theorem dL_law_937 : decode cL_law 937 = .ok (.lcmp, 1) := dk_148 (dk_at dksL_law_34 11 rfl rfl)
theorem dL_law_938 : decode cL_law 938 = .ok (.ifCond .eq 5, 3) := dk_153 0 5 (dk_at dksL_law_34 12 rfl rfl)
theorem dL_law_941 : decode cL_law 941 = .ok (.iconst 0, 1) := dk_3 (dk_at dksL_law_34 15 rfl rfl)
theorem dL_law_942 : decode cL_law 942 = .ok (.ireturn, 1) := dk_172 (dk_at dksL_law_34 16 rfl rfl)
theorem dL_law_943 : decode cL_law 943 = .ok (.goto 1173, 3) := dk_167 4 149 (dk_at dksL_law_34 17 rfl rfl)
theorem dL_law_946 : decode cL_law 946 = .ok (.aload_n 1, 1) := dk_43 (dk_at dksL_law_34 20 rfl rfl)
theorem dL_law_947 : decode cL_law 947 = .ok (.aload_n 0, 1) := dk_42 (dk_at dksL_law_34 21 rfl rfl)
theorem dL_law_948 : decode cL_law 948 = .ok (.iload 4, 2) := dk_21 4 (dk_at dksL_law_34 22 rfl rfl)
theorem dL_law_950 : decode cL_law 950 = .ok (.iconst 1, 1) := dk_4 (dk_at dksL_law_35 0 rfl rfl)
theorem dL_law_951 : decode cL_law 951 = .ok (.iadd, 1) := dk_96 (dk_at dksL_law_35 1 rfl rfl)
theorem dL_law_952 : decode cL_law 952 = .ok (.iaload, 1) := dk_46 (dk_at dksL_law_35 2 rfl rfl)
theorem dL_law_953 : decode cL_law 953 = .ok (.aload_n 0, 1) := dk_42 (dk_at dksL_law_35 3 rfl rfl)
theorem dL_law_954 : decode cL_law 954 = .ok (.iload 4, 2) := dk_21 4 (dk_at dksL_law_35 4 rfl rfl)
theorem dL_law_956 : decode cL_law 956 = .ok (.iconst 2, 1) := dk_5 (dk_at dksL_law_35 6 rfl rfl)
theorem dL_law_957 : decode cL_law 957 = .ok (.iadd, 1) := dk_96 (dk_at dksL_law_35 7 rfl rfl)
theorem dL_law_958 : decode cL_law 958 = .ok (.iaload, 1) := dk_46 (dk_at dksL_law_35 8 rfl rfl)
theorem dL_law_959 : decode cL_law 959 = .ok (.aload_n 0, 1) := dk_42 (dk_at dksL_law_35 9 rfl rfl)
theorem dL_law_960 : decode cL_law 960 = .ok (.iload 4, 2) := dk_21 4 (dk_at dksL_law_35 10 rfl rfl)
theorem dL_law_962 : decode cL_law 962 = .ok (.iconst 3, 1) := dk_6 (dk_at dksL_law_35 12 rfl rfl)
theorem dL_law_963 : decode cL_law 963 = .ok (.iadd, 1) := dk_96 (dk_at dksL_law_35 13 rfl rfl)
theorem dL_law_964 : decode cL_law 964 = .ok (.iaload, 1) := dk_46 (dk_at dksL_law_35 14 rfl rfl)
theorem dL_law_965 : decode cL_law 965 = .ok (.ifCond .eq 7, 3) := dk_153 0 7 (dk_at dksL_law_35 15 rfl rfl)
theorem dL_law_968 : decode cL_law 968 = .ok (.iconst 1, 1) := dk_4 (dk_at dksL_law_35 18 rfl rfl)
theorem dL_law_969 : decode cL_law 969 = .ok (.goto 4, 3) := dk_167 0 4 (dk_at dksL_law_35 19 rfl rfl)
theorem dL_law_972 : decode cL_law 972 = .ok (.iconst 0, 1) := dk_3 (dk_at dksL_law_35 22 rfl rfl)
theorem dL_law_973 : decode cL_law 973 = .ok (.aload_n 3, 1) := dk_45 (dk_at dksL_law_35 23 rfl rfl)
theorem dL_law_974 : decode cL_law 974 = .ok (.invokestatic 147, 3) := dk_184 0 147 (dk_at dksL_law_36 0 rfl rfl)
theorem dL_law_977 : decode cL_law 977 = .ok (.istore 5, 2) := dk_54 5 (dk_at dksL_law_36 3 rfl rfl)
theorem dL_law_979 : decode cL_law 979 = .ok (.aload_n 2, 1) := dk_44 (dk_at dksL_law_36 5 rfl rfl)
theorem dL_law_980 : decode cL_law 980 = .ok (.aload_n 0, 1) := dk_42 (dk_at dksL_law_36 6 rfl rfl)
theorem dL_law_981 : decode cL_law 981 = .ok (.iload 4, 2) := dk_21 4 (dk_at dksL_law_36 7 rfl rfl)
theorem dL_law_983 : decode cL_law 983 = .ok (.iconst 1, 1) := dk_4 (dk_at dksL_law_36 9 rfl rfl)
theorem dL_law_984 : decode cL_law 984 = .ok (.iadd, 1) := dk_96 (dk_at dksL_law_36 10 rfl rfl)
theorem dL_law_985 : decode cL_law 985 = .ok (.iaload, 1) := dk_46 (dk_at dksL_law_36 11 rfl rfl)
theorem dL_law_986 : decode cL_law 986 = .ok (.aload_n 0, 1) := dk_42 (dk_at dksL_law_36 12 rfl rfl)
theorem dL_law_987 : decode cL_law 987 = .ok (.iload 4, 2) := dk_21 4 (dk_at dksL_law_36 13 rfl rfl)
theorem dL_law_989 : decode cL_law 989 = .ok (.iconst 2, 1) := dk_5 (dk_at dksL_law_36 15 rfl rfl)
theorem dL_law_990 : decode cL_law 990 = .ok (.iadd, 1) := dk_96 (dk_at dksL_law_36 16 rfl rfl)
theorem dL_law_991 : decode cL_law 991 = .ok (.iaload, 1) := dk_46 (dk_at dksL_law_36 17 rfl rfl)
theorem dL_law_992 : decode cL_law 992 = .ok (.aload_n 0, 1) := dk_42 (dk_at dksL_law_36 18 rfl rfl)
theorem dL_law_993 : decode cL_law 993 = .ok (.iload 4, 2) := dk_21 4 (dk_at dksL_law_36 19 rfl rfl)
theorem dL_law_995 : decode cL_law 995 = .ok (.iconst 3, 1) := dk_6 (dk_at dksL_law_36 21 rfl rfl)
theorem dL_law_996 : decode cL_law 996 = .ok (.iadd, 1) := dk_96 (dk_at dksL_law_36 22 rfl rfl)
theorem dL_law_997 : decode cL_law 997 = .ok (.iaload, 1) := dk_46 (dk_at dksL_law_36 23 rfl rfl)
theorem dL_law_998 : decode cL_law 998 = .ok (.ifCond .eq 7, 3) := dk_153 0 7 (dk_at dksL_law_37 0 rfl rfl)
theorem dL_law_1001 : decode cL_law 1001 = .ok (.iconst 1, 1) := dk_4 (dk_at dksL_law_37 3 rfl rfl)
theorem dL_law_1002 : decode cL_law 1002 = .ok (.goto 4, 3) := dk_167 0 4 (dk_at dksL_law_37 4 rfl rfl)
theorem dL_law_1005 : decode cL_law 1005 = .ok (.iconst 0, 1) := dk_3 (dk_at dksL_law_37 7 rfl rfl)
theorem dL_law_1006 : decode cL_law 1006 = .ok (.invokevirtual 149, 3) := dk_182 0 149 (dk_at dksL_law_37 8 rfl rfl)
theorem dL_law_1009 : decode cL_law 1009 = .ok (.istore 6, 2) := dk_54 6 (dk_at dksL_law_37 11 rfl rfl)
theorem dL_law_1011 : decode cL_law 1011 = .ok (.aload_n 2, 1) := dk_44 (dk_at dksL_law_37 13 rfl rfl)
theorem dL_law_1012 : decode cL_law 1012 = .ok (.invokevirtual 107, 3) := dk_182 0 107 (dk_at dksL_law_37 14 rfl rfl)
theorem dL_law_1015 : decode cL_law 1015 = .ok (.iload 5, 2) := dk_21 5 (dk_at dksL_law_37 17 rfl rfl)
theorem dL_law_1017 : decode cL_law 1017 = .ok (.if_icmp .eq 5, 3) := dk_159 0 5 (dk_at dksL_law_37 19 rfl rfl)
theorem dL_law_1020 : decode cL_law 1020 = .ok (.iconst 0, 1) := dk_3 (dk_at dksL_law_37 22 rfl rfl)
theorem dL_law_1021 : decode cL_law 1021 = .ok (.ireturn, 1) := dk_172 (dk_at dksL_law_37 23 rfl rfl)
theorem dL_law_1022 : decode cL_law 1022 = .ok (.iload 5, 2) := dk_21 5 (dk_at dksL_law_38 0 rfl rfl)
theorem dL_law_1024 : decode cL_law 1024 = .ok (.ifCond .ne 22, 3) := dk_154 0 22 (dk_at dksL_law_38 2 rfl rfl)
theorem dL_law_1027 : decode cL_law 1027 = .ok (.aload_n 3, 1) := dk_45 (dk_at dksL_law_38 5 rfl rfl)
theorem dL_law_1028 : decode cL_law 1028 = .ok (.iconst 0, 1) := dk_3 (dk_at dksL_law_38 6 rfl rfl)
theorem dL_law_1029 : decode cL_law 1029 = .ok (.laload, 1) := dk_47 (dk_at dksL_law_38 7 rfl rfl)
theorem dL_law_1030 : decode cL_law 1030 = .ok (.iload 6, 2) := dk_21 6 (dk_at dksL_law_38 8 rfl rfl)
theorem dL_law_1032 : decode cL_law 1032 = .ok (.ifCond .eq 7, 3) := dk_153 0 7 (dk_at dksL_law_38 10 rfl rfl)
theorem dL_law_1035 : decode cL_law 1035 = .ok (.lconst 1, 1) := dk_10 (dk_at dksL_law_38 13 rfl rfl)
theorem dL_law_1036 : decode cL_law 1036 = .ok (.goto 4, 3) := dk_167 0 4 (dk_at dksL_law_38 14 rfl rfl)
theorem dL_law_1039 : decode cL_law 1039 = .ok (.lconst 0, 1) := dk_9 (dk_at dksL_law_38 17 rfl rfl)
theorem dL_law_1040 : decode cL_law 1040 = .ok (.lcmp, 1) := dk_148 (dk_at dksL_law_38 18 rfl rfl)
theorem dL_law_1041 : decode cL_law 1041 = .ok (.ifCond .eq 5, 3) := dk_153 0 5 (dk_at dksL_law_38 19 rfl rfl)
theorem dL_law_1044 : decode cL_law 1044 = .ok (.iconst 0, 1) := dk_3 (dk_at dksL_law_38 22 rfl rfl)
theorem dL_law_1045 : decode cL_law 1045 = .ok (.ireturn, 1) := dk_172 (dk_at dksL_law_38 23 rfl rfl)
theorem dL_law_1046 : decode cL_law 1046 = .ok (.goto 1070, 3) := dk_167 4 46 (dk_at dksL_law_39 0 rfl rfl)
theorem dL_law_1049 : decode cL_law 1049 = .ok (.aload_n 1, 1) := dk_43 (dk_at dksL_law_39 3 rfl rfl)
theorem dL_law_1050 : decode cL_law 1050 = .ok (.aload_n 0, 1) := dk_42 (dk_at dksL_law_39 4 rfl rfl)
theorem dL_law_1051 : decode cL_law 1051 = .ok (.iload 4, 2) := dk_21 4 (dk_at dksL_law_39 5 rfl rfl)
theorem dL_law_1053 : decode cL_law 1053 = .ok (.iconst 1, 1) := dk_4 (dk_at dksL_law_39 7 rfl rfl)
theorem dL_law_1054 : decode cL_law 1054 = .ok (.iadd, 1) := dk_96 (dk_at dksL_law_39 8 rfl rfl)
theorem dL_law_1055 : decode cL_law 1055 = .ok (.iaload, 1) := dk_46 (dk_at dksL_law_39 9 rfl rfl)
theorem dL_law_1056 : decode cL_law 1056 = .ok (.aload_n 3, 1) := dk_45 (dk_at dksL_law_39 10 rfl rfl)
theorem dL_law_1057 : decode cL_law 1057 = .ok (.invokestatic 150, 3) := dk_184 0 150 (dk_at dksL_law_39 11 rfl rfl)
theorem dL_law_1060 : decode cL_law 1060 = .ok (.istore 5, 2) := dk_54 5 (dk_at dksL_law_39 14 rfl rfl)
theorem dL_law_1062 : decode cL_law 1062 = .ok (.aload_n 2, 1) := dk_44 (dk_at dksL_law_39 16 rfl rfl)
theorem dL_law_1063 : decode cL_law 1063 = .ok (.aload_n 0, 1) := dk_42 (dk_at dksL_law_39 17 rfl rfl)
theorem dL_law_1064 : decode cL_law 1064 = .ok (.iload 4, 2) := dk_21 4 (dk_at dksL_law_39 18 rfl rfl)
theorem dL_law_1066 : decode cL_law 1066 = .ok (.iconst 1, 1) := dk_4 (dk_at dksL_law_39 20 rfl rfl)
theorem dL_law_1067 : decode cL_law 1067 = .ok (.iadd, 1) := dk_96 (dk_at dksL_law_39 21 rfl rfl)
theorem dL_law_1068 : decode cL_law 1068 = .ok (.iaload, 1) := dk_46 (dk_at dksL_law_39 22 rfl rfl)
theorem dL_law_1069 : decode cL_law 1069 = .ok (.invokevirtual 152, 3) := dk_182 0 152 (dk_at dksL_law_40 0 rfl rfl)
theorem dL_law_1072 : decode cL_law 1072 = .ok (.istore 6, 2) := dk_54 6 (dk_at dksL_law_40 3 rfl rfl)
theorem dL_law_1074 : decode cL_law 1074 = .ok (.aload_n 2, 1) := dk_44 (dk_at dksL_law_40 5 rfl rfl)
theorem dL_law_1075 : decode cL_law 1075 = .ok (.invokevirtual 107, 3) := dk_182 0 107 (dk_at dksL_law_40 6 rfl rfl)
theorem dL_law_1078 : decode cL_law 1078 = .ok (.iload 5, 2) := dk_21 5 (dk_at dksL_law_40 9 rfl rfl)
theorem dL_law_1080 : decode cL_law 1080 = .ok (.if_icmp .eq 5, 3) := dk_159 0 5 (dk_at dksL_law_40 11 rfl rfl)
theorem dL_law_1083 : decode cL_law 1083 = .ok (.iconst 0, 1) := dk_3 (dk_at dksL_law_40 14 rfl rfl)
theorem dL_law_1084 : decode cL_law 1084 = .ok (.ireturn, 1) := dk_172 (dk_at dksL_law_40 15 rfl rfl)
theorem dL_law_1085 : decode cL_law 1085 = .ok (.iload 5, 2) := dk_21 5 (dk_at dksL_law_40 16 rfl rfl)
theorem dL_law_1087 : decode cL_law 1087 = .ok (.ifCond .ne 15, 3) := dk_154 0 15 (dk_at dksL_law_40 18 rfl rfl)
theorem dL_law_1090 : decode cL_law 1090 = .ok (.aload_n 3, 1) := dk_45 (dk_at dksL_law_40 21 rfl rfl)
theorem dL_law_1091 : decode cL_law 1091 = .ok (.iconst 0, 1) := dk_3 (dk_at dksL_law_40 22 rfl rfl)
theorem dL_law_1092 : decode cL_law 1092 = .ok (.laload, 1) := dk_47 (dk_at dksL_law_40 23 rfl rfl)
theorem dL_law_1093 : decode cL_law 1093 = .ok (.iload 6, 2) := dk_21 6 (dk_at dksL_law_41 0 rfl rfl)
theorem dL_law_1095 : decode cL_law 1095 = .ok (.i2l, 1) := dk_133 (dk_at dksL_law_41 2 rfl rfl)
theorem dL_law_1096 : decode cL_law 1096 = .ok (.lcmp, 1) := dk_148 (dk_at dksL_law_41 3 rfl rfl)
theorem dL_law_1097 : decode cL_law 1097 = .ok (.ifCond .eq 5, 3) := dk_153 0 5 (dk_at dksL_law_41 4 rfl rfl)
theorem dL_law_1100 : decode cL_law 1100 = .ok (.iconst 0, 1) := dk_3 (dk_at dksL_law_41 7 rfl rfl)
theorem dL_law_1101 : decode cL_law 1101 = .ok (.ireturn, 1) := dk_172 (dk_at dksL_law_41 8 rfl rfl)
theorem dL_law_1102 : decode cL_law 1102 = .ok (.goto 1014, 3) := dk_167 3 246 (dk_at dksL_law_41 9 rfl rfl)
theorem dL_law_1105 : decode cL_law 1105 = .ok (.aload_n 1, 1) := dk_43 (dk_at dksL_law_41 12 rfl rfl)
theorem dL_law_1106 : decode cL_law 1106 = .ok (.invokevirtual 153, 3) := dk_182 0 153 (dk_at dksL_law_41 13 rfl rfl)
theorem dL_law_1109 : decode cL_law 1109 = .ok (.aload_n 2, 1) := dk_44 (dk_at dksL_law_41 16 rfl rfl)
theorem dL_law_1110 : decode cL_law 1110 = .ok (.invokevirtual 156, 3) := dk_182 0 156 (dk_at dksL_law_41 17 rfl rfl)
theorem dL_law_1113 : decode cL_law 1113 = .ok (.if_icmp .eq 1003, 3) := dk_159 3 235 (dk_at dksL_law_41 20 rfl rfl)
theorem dL_law_1116 : decode cL_law 1116 = .ok (.iconst 0, 1) := dk_3 (dk_at dksL_law_41 23 rfl rfl)
theorem dL_law_1117 : decode cL_law 1117 = .ok (.ireturn, 1) := dk_172 (dk_at dksL_law_42 0 rfl rfl)
theorem dL_law_1118 : decode cL_law 1118 = .ok (.aload_n 1, 1) := dk_43 (dk_at dksL_law_42 1 rfl rfl)
theorem dL_law_1119 : decode cL_law 1119 = .ok (.aload_n 0, 1) := dk_42 (dk_at dksL_law_42 2 rfl rfl)
theorem dL_law_1120 : decode cL_law 1120 = .ok (.iload 4, 2) := dk_21 4 (dk_at dksL_law_42 3 rfl rfl)
theorem dL_law_1122 : decode cL_law 1122 = .ok (.iconst 1, 1) := dk_4 (dk_at dksL_law_42 5 rfl rfl)
theorem dL_law_1123 : decode cL_law 1123 = .ok (.iadd, 1) := dk_96 (dk_at dksL_law_42 6 rfl rfl)
theorem dL_law_1124 : decode cL_law 1124 = .ok (.iaload, 1) := dk_46 (dk_at dksL_law_42 7 rfl rfl)
theorem dL_law_1125 : decode cL_law 1125 = .ok (.aload_n 3, 1) := dk_45 (dk_at dksL_law_42 8 rfl rfl)
theorem dL_law_1126 : decode cL_law 1126 = .ok (.invokestatic 157, 3) := dk_184 0 157 (dk_at dksL_law_42 9 rfl rfl)
theorem dL_law_1129 : decode cL_law 1129 = .ok (.istore 5, 2) := dk_54 5 (dk_at dksL_law_42 12 rfl rfl)
theorem dL_law_1131 : decode cL_law 1131 = .ok (.aload_n 2, 1) := dk_44 (dk_at dksL_law_42 14 rfl rfl)
theorem dL_law_1132 : decode cL_law 1132 = .ok (.aload_n 0, 1) := dk_42 (dk_at dksL_law_42 15 rfl rfl)
theorem dL_law_1133 : decode cL_law 1133 = .ok (.iload 4, 2) := dk_21 4 (dk_at dksL_law_42 16 rfl rfl)
theorem dL_law_1135 : decode cL_law 1135 = .ok (.iconst 1, 1) := dk_4 (dk_at dksL_law_42 18 rfl rfl)
theorem dL_law_1136 : decode cL_law 1136 = .ok (.iadd, 1) := dk_96 (dk_at dksL_law_42 19 rfl rfl)
theorem dL_law_1137 : decode cL_law 1137 = .ok (.iaload, 1) := dk_46 (dk_at dksL_law_42 20 rfl rfl)
theorem dL_law_1138 : decode cL_law 1138 = .ok (.invokevirtual 159, 3) := dk_182 0 159 (dk_at dksL_law_42 21 rfl rfl)
theorem dL_law_1141 : decode cL_law 1141 = .ok (.istore 6, 2) := dk_54 6 (dk_at dksL_law_43 0 rfl rfl)
theorem dL_law_1143 : decode cL_law 1143 = .ok (.aload_n 2, 1) := dk_44 (dk_at dksL_law_43 2 rfl rfl)
theorem dL_law_1144 : decode cL_law 1144 = .ok (.invokevirtual 107, 3) := dk_182 0 107 (dk_at dksL_law_43 3 rfl rfl)
theorem dL_law_1147 : decode cL_law 1147 = .ok (.iload 5, 2) := dk_21 5 (dk_at dksL_law_43 6 rfl rfl)
theorem dL_law_1149 : decode cL_law 1149 = .ok (.if_icmp .eq 5, 3) := dk_159 0 5 (dk_at dksL_law_43 8 rfl rfl)
theorem dL_law_1152 : decode cL_law 1152 = .ok (.iconst 0, 1) := dk_3 (dk_at dksL_law_43 11 rfl rfl)
theorem dL_law_1153 : decode cL_law 1153 = .ok (.ireturn, 1) := dk_172 (dk_at dksL_law_43 12 rfl rfl)
theorem dL_law_1154 : decode cL_law 1154 = .ok (.iload 5, 2) := dk_21 5 (dk_at dksL_law_43 13 rfl rfl)
theorem dL_law_1156 : decode cL_law 1156 = .ok (.ifCond .ne 15, 3) := dk_154 0 15 (dk_at dksL_law_43 15 rfl rfl)
theorem dL_law_1159 : decode cL_law 1159 = .ok (.aload_n 3, 1) := dk_45 (dk_at dksL_law_43 18 rfl rfl)
theorem dL_law_1160 : decode cL_law 1160 = .ok (.iconst 0, 1) := dk_3 (dk_at dksL_law_43 19 rfl rfl)
theorem dL_law_1161 : decode cL_law 1161 = .ok (.laload, 1) := dk_47 (dk_at dksL_law_43 20 rfl rfl)
theorem dL_law_1162 : decode cL_law 1162 = .ok (.iload 6, 2) := dk_21 6 (dk_at dksL_law_43 21 rfl rfl)
theorem dL_law_1164 : decode cL_law 1164 = .ok (.i2l, 1) := dk_133 (dk_at dksL_law_43 23 rfl rfl)
theorem dL_law_1165 : decode cL_law 1165 = .ok (.lcmp, 1) := dk_148 (dk_at dksL_law_44 0 rfl rfl)
theorem dL_law_1166 : decode cL_law 1166 = .ok (.ifCond .eq 5, 3) := dk_153 0 5 (dk_at dksL_law_44 1 rfl rfl)
theorem dL_law_1169 : decode cL_law 1169 = .ok (.iconst 0, 1) := dk_3 (dk_at dksL_law_44 4 rfl rfl)
theorem dL_law_1170 : decode cL_law 1170 = .ok (.ireturn, 1) := dk_172 (dk_at dksL_law_44 5 rfl rfl)
theorem dL_law_1171 : decode cL_law 1171 = .ok (.goto 945, 3) := dk_167 3 177 (dk_at dksL_law_44 6 rfl rfl)
theorem dL_law_1174 : decode cL_law 1174 = .ok (.aload_n 1, 1) := dk_43 (dk_at dksL_law_44 9 rfl rfl)
theorem dL_law_1175 : decode cL_law 1175 = .ok (.aload_n 0, 1) := dk_42 (dk_at dksL_law_44 10 rfl rfl)
theorem dL_law_1176 : decode cL_law 1176 = .ok (.iload 4, 2) := dk_21 4 (dk_at dksL_law_44 11 rfl rfl)
theorem dL_law_1178 : decode cL_law 1178 = .ok (.iconst 1, 1) := dk_4 (dk_at dksL_law_44 13 rfl rfl)
theorem dL_law_1179 : decode cL_law 1179 = .ok (.iadd, 1) := dk_96 (dk_at dksL_law_44 14 rfl rfl)
theorem dL_law_1180 : decode cL_law 1180 = .ok (.iaload, 1) := dk_46 (dk_at dksL_law_44 15 rfl rfl)
theorem dL_law_1181 : decode cL_law 1181 = .ok (.aload_n 0, 1) := dk_42 (dk_at dksL_law_44 16 rfl rfl)
theorem dL_law_1182 : decode cL_law 1182 = .ok (.iload 4, 2) := dk_21 4 (dk_at dksL_law_44 17 rfl rfl)
theorem dL_law_1184 : decode cL_law 1184 = .ok (.iconst 2, 1) := dk_5 (dk_at dksL_law_44 19 rfl rfl)
theorem dL_law_1185 : decode cL_law 1185 = .ok (.iadd, 1) := dk_96 (dk_at dksL_law_44 20 rfl rfl)
theorem dL_law_1186 : decode cL_law 1186 = .ok (.iaload, 1) := dk_46 (dk_at dksL_law_44 21 rfl rfl)
theorem dL_law_1187 : decode cL_law 1187 = .ok (.aload_n 0, 1) := dk_42 (dk_at dksL_law_44 22 rfl rfl)
theorem dL_law_1188 : decode cL_law 1188 = .ok (.iload 4, 2) := dk_21 4 (dk_at dksL_law_45 0 rfl rfl)
theorem dL_law_1190 : decode cL_law 1190 = .ok (.iconst 3, 1) := dk_6 (dk_at dksL_law_45 2 rfl rfl)
theorem dL_law_1191 : decode cL_law 1191 = .ok (.iadd, 1) := dk_96 (dk_at dksL_law_45 3 rfl rfl)
theorem dL_law_1192 : decode cL_law 1192 = .ok (.iaload, 1) := dk_46 (dk_at dksL_law_45 4 rfl rfl)
theorem dL_law_1193 : decode cL_law 1193 = .ok (.aload_n 0, 1) := dk_42 (dk_at dksL_law_45 5 rfl rfl)
theorem dL_law_1194 : decode cL_law 1194 = .ok (.iload 4, 2) := dk_21 4 (dk_at dksL_law_45 6 rfl rfl)
theorem dL_law_1196 : decode cL_law 1196 = .ok (.iconst 4, 1) := dk_7 (dk_at dksL_law_45 8 rfl rfl)
theorem dL_law_1197 : decode cL_law 1197 = .ok (.iadd, 1) := dk_96 (dk_at dksL_law_45 9 rfl rfl)
theorem dL_law_1198 : decode cL_law 1198 = .ok (.iaload, 1) := dk_46 (dk_at dksL_law_45 10 rfl rfl)
theorem dL_law_1199 : decode cL_law 1199 = .ok (.aload_n 3, 1) := dk_45 (dk_at dksL_law_45 11 rfl rfl)
theorem dL_law_1200 : decode cL_law 1200 = .ok (.invokestatic 160, 3) := dk_184 0 160 (dk_at dksL_law_45 12 rfl rfl)
theorem dL_law_1203 : decode cL_law 1203 = .ok (.istore 5, 2) := dk_54 5 (dk_at dksL_law_45 15 rfl rfl)
theorem dL_law_1205 : decode cL_law 1205 = .ok (.aload_n 2, 1) := dk_44 (dk_at dksL_law_45 17 rfl rfl)
theorem dL_law_1206 : decode cL_law 1206 = .ok (.aload_n 0, 1) := dk_42 (dk_at dksL_law_45 18 rfl rfl)
theorem dL_law_1207 : decode cL_law 1207 = .ok (.iload 4, 2) := dk_21 4 (dk_at dksL_law_45 19 rfl rfl)
theorem dL_law_1209 : decode cL_law 1209 = .ok (.iconst 1, 1) := dk_4 (dk_at dksL_law_45 21 rfl rfl)
theorem dL_law_1210 : decode cL_law 1210 = .ok (.iadd, 1) := dk_96 (dk_at dksL_law_45 22 rfl rfl)
theorem dL_law_1211 : decode cL_law 1211 = .ok (.iaload, 1) := dk_46 (dk_at dksL_law_45 23 rfl rfl)
theorem dL_law_1212 : decode cL_law 1212 = .ok (.aload_n 0, 1) := dk_42 (dk_at dksL_law_46 0 rfl rfl)
theorem dL_law_1213 : decode cL_law 1213 = .ok (.iload 4, 2) := dk_21 4 (dk_at dksL_law_46 1 rfl rfl)
theorem dL_law_1215 : decode cL_law 1215 = .ok (.iconst 2, 1) := dk_5 (dk_at dksL_law_46 3 rfl rfl)
theorem dL_law_1216 : decode cL_law 1216 = .ok (.iadd, 1) := dk_96 (dk_at dksL_law_46 4 rfl rfl)
theorem dL_law_1217 : decode cL_law 1217 = .ok (.iaload, 1) := dk_46 (dk_at dksL_law_46 5 rfl rfl)
theorem dL_law_1218 : decode cL_law 1218 = .ok (.aload_n 0, 1) := dk_42 (dk_at dksL_law_46 6 rfl rfl)
theorem dL_law_1219 : decode cL_law 1219 = .ok (.iload 4, 2) := dk_21 4 (dk_at dksL_law_46 7 rfl rfl)
theorem dL_law_1221 : decode cL_law 1221 = .ok (.iconst 3, 1) := dk_6 (dk_at dksL_law_46 9 rfl rfl)
theorem dL_law_1222 : decode cL_law 1222 = .ok (.iadd, 1) := dk_96 (dk_at dksL_law_46 10 rfl rfl)
theorem dL_law_1223 : decode cL_law 1223 = .ok (.iaload, 1) := dk_46 (dk_at dksL_law_46 11 rfl rfl)
theorem dL_law_1224 : decode cL_law 1224 = .ok (.aload_n 0, 1) := dk_42 (dk_at dksL_law_46 12 rfl rfl)
theorem dL_law_1225 : decode cL_law 1225 = .ok (.iload 4, 2) := dk_21 4 (dk_at dksL_law_46 13 rfl rfl)
theorem dL_law_1227 : decode cL_law 1227 = .ok (.iconst 4, 1) := dk_7 (dk_at dksL_law_46 15 rfl rfl)
theorem dL_law_1228 : decode cL_law 1228 = .ok (.iadd, 1) := dk_96 (dk_at dksL_law_46 16 rfl rfl)
theorem dL_law_1229 : decode cL_law 1229 = .ok (.iaload, 1) := dk_46 (dk_at dksL_law_46 17 rfl rfl)
theorem dL_law_1230 : decode cL_law 1230 = .ok (.invokevirtual 162, 3) := dk_182 0 162 (dk_at dksL_law_46 18 rfl rfl)
theorem dL_law_1233 : decode cL_law 1233 = .ok (.istore 6, 2) := dk_54 6 (dk_at dksL_law_46 21 rfl rfl)
theorem dL_law_1235 : decode cL_law 1235 = .ok (.aload_n 2, 1) := dk_44 (dk_at dksL_law_46 23 rfl rfl)
theorem dL_law_1236 : decode cL_law 1236 = .ok (.invokevirtual 107, 3) := dk_182 0 107 (dk_at dksL_law_47 0 rfl rfl)
theorem dL_law_1239 : decode cL_law 1239 = .ok (.iload 5, 2) := dk_21 5 (dk_at dksL_law_47 3 rfl rfl)
theorem dL_law_1241 : decode cL_law 1241 = .ok (.if_icmp .eq 5, 3) := dk_159 0 5 (dk_at dksL_law_47 5 rfl rfl)
theorem dL_law_1244 : decode cL_law 1244 = .ok (.iconst 0, 1) := dk_3 (dk_at dksL_law_47 8 rfl rfl)
theorem dL_law_1245 : decode cL_law 1245 = .ok (.ireturn, 1) := dk_172 (dk_at dksL_law_47 9 rfl rfl)
theorem dL_law_1246 : decode cL_law 1246 = .ok (.iload 5, 2) := dk_21 5 (dk_at dksL_law_47 10 rfl rfl)
theorem dL_law_1248 : decode cL_law 1248 = .ok (.ifCond .ne 15, 3) := dk_154 0 15 (dk_at dksL_law_47 12 rfl rfl)
theorem dL_law_1251 : decode cL_law 1251 = .ok (.aload_n 3, 1) := dk_45 (dk_at dksL_law_47 15 rfl rfl)
theorem dL_law_1252 : decode cL_law 1252 = .ok (.iconst 0, 1) := dk_3 (dk_at dksL_law_47 16 rfl rfl)
theorem dL_law_1253 : decode cL_law 1253 = .ok (.laload, 1) := dk_47 (dk_at dksL_law_47 17 rfl rfl)
theorem dL_law_1254 : decode cL_law 1254 = .ok (.iload 6, 2) := dk_21 6 (dk_at dksL_law_47 18 rfl rfl)
theorem dL_law_1256 : decode cL_law 1256 = .ok (.i2l, 1) := dk_133 (dk_at dksL_law_47 20 rfl rfl)
theorem dL_law_1257 : decode cL_law 1257 = .ok (.lcmp, 1) := dk_148 (dk_at dksL_law_47 21 rfl rfl)
theorem dL_law_1258 : decode cL_law 1258 = .ok (.ifCond .eq 5, 3) := dk_153 0 5 (dk_at dksL_law_48 0 rfl rfl)
theorem dL_law_1261 : decode cL_law 1261 = .ok (.iconst 0, 1) := dk_3 (dk_at dksL_law_48 3 rfl rfl)
theorem dL_law_1262 : decode cL_law 1262 = .ok (.ireturn, 1) := dk_172 (dk_at dksL_law_48 4 rfl rfl)
theorem dL_law_1263 : decode cL_law 1263 = .ok (.goto 853, 3) := dk_167 3 85 (dk_at dksL_law_48 5 rfl rfl)
theorem dL_law_1266 : decode cL_law 1266 = .ok (.aload_n 1, 1) := dk_43 (dk_at dksL_law_48 8 rfl rfl)
theorem dL_law_1267 : decode cL_law 1267 = .ok (.aload_n 0, 1) := dk_42 (dk_at dksL_law_48 9 rfl rfl)
theorem dL_law_1268 : decode cL_law 1268 = .ok (.iload 4, 2) := dk_21 4 (dk_at dksL_law_48 10 rfl rfl)
theorem dL_law_1270 : decode cL_law 1270 = .ok (.iconst 1, 1) := dk_4 (dk_at dksL_law_48 12 rfl rfl)
theorem dL_law_1271 : decode cL_law 1271 = .ok (.iadd, 1) := dk_96 (dk_at dksL_law_48 13 rfl rfl)
theorem dL_law_1272 : decode cL_law 1272 = .ok (.iaload, 1) := dk_46 (dk_at dksL_law_48 14 rfl rfl)
theorem dL_law_1273 : decode cL_law 1273 = .ok (.aload_n 0, 1) := dk_42 (dk_at dksL_law_48 15 rfl rfl)
theorem dL_law_1274 : decode cL_law 1274 = .ok (.iload 4, 2) := dk_21 4 (dk_at dksL_law_48 16 rfl rfl)
theorem dL_law_1276 : decode cL_law 1276 = .ok (.iconst 2, 1) := dk_5 (dk_at dksL_law_48 18 rfl rfl)
theorem dL_law_1277 : decode cL_law 1277 = .ok (.iadd, 1) := dk_96 (dk_at dksL_law_48 19 rfl rfl)
theorem dL_law_1278 : decode cL_law 1278 = .ok (.iaload, 1) := dk_46 (dk_at dksL_law_48 20 rfl rfl)
theorem dL_law_1279 : decode cL_law 1279 = .ok (.aload_n 0, 1) := dk_42 (dk_at dksL_law_48 21 rfl rfl)
theorem dL_law_1280 : decode cL_law 1280 = .ok (.iload 4, 2) := dk_21 4 (dk_at dksL_law_48 22 rfl rfl)
theorem dL_law_1282 : decode cL_law 1282 = .ok (.iconst 3, 1) := dk_6 (dk_at dksL_law_49 0 rfl rfl)
theorem dL_law_1283 : decode cL_law 1283 = .ok (.iadd, 1) := dk_96 (dk_at dksL_law_49 1 rfl rfl)
theorem dL_law_1284 : decode cL_law 1284 = .ok (.iaload, 1) := dk_46 (dk_at dksL_law_49 2 rfl rfl)
theorem dL_law_1285 : decode cL_law 1285 = .ok (.aload_n 0, 1) := dk_42 (dk_at dksL_law_49 3 rfl rfl)
theorem dL_law_1286 : decode cL_law 1286 = .ok (.iload 4, 2) := dk_21 4 (dk_at dksL_law_49 4 rfl rfl)
theorem dL_law_1288 : decode cL_law 1288 = .ok (.iconst 4, 1) := dk_7 (dk_at dksL_law_49 6 rfl rfl)
theorem dL_law_1289 : decode cL_law 1289 = .ok (.iadd, 1) := dk_96 (dk_at dksL_law_49 7 rfl rfl)
theorem dL_law_1290 : decode cL_law 1290 = .ok (.iaload, 1) := dk_46 (dk_at dksL_law_49 8 rfl rfl)
theorem dL_law_1291 : decode cL_law 1291 = .ok (.aload_n 3, 1) := dk_45 (dk_at dksL_law_49 9 rfl rfl)
theorem dL_law_1292 : decode cL_law 1292 = .ok (.invokestatic 163, 3) := dk_184 0 163 (dk_at dksL_law_49 10 rfl rfl)
theorem dL_law_1295 : decode cL_law 1295 = .ok (.istore 5, 2) := dk_54 5 (dk_at dksL_law_49 13 rfl rfl)
theorem dL_law_1297 : decode cL_law 1297 = .ok (.aload_n 2, 1) := dk_44 (dk_at dksL_law_49 15 rfl rfl)
theorem dL_law_1298 : decode cL_law 1298 = .ok (.aload_n 0, 1) := dk_42 (dk_at dksL_law_49 16 rfl rfl)
theorem dL_law_1299 : decode cL_law 1299 = .ok (.iload 4, 2) := dk_21 4 (dk_at dksL_law_49 17 rfl rfl)
theorem dL_law_1301 : decode cL_law 1301 = .ok (.iconst 1, 1) := dk_4 (dk_at dksL_law_49 19 rfl rfl)
theorem dL_law_1302 : decode cL_law 1302 = .ok (.iadd, 1) := dk_96 (dk_at dksL_law_49 20 rfl rfl)
theorem dL_law_1303 : decode cL_law 1303 = .ok (.iaload, 1) := dk_46 (dk_at dksL_law_49 21 rfl rfl)
theorem dL_law_1304 : decode cL_law 1304 = .ok (.aload_n 0, 1) := dk_42 (dk_at dksL_law_49 22 rfl rfl)
theorem dL_law_1305 : decode cL_law 1305 = .ok (.iload 4, 2) := dk_21 4 (dk_at dksL_law_50 0 rfl rfl)
theorem dL_law_1307 : decode cL_law 1307 = .ok (.iconst 2, 1) := dk_5 (dk_at dksL_law_50 2 rfl rfl)
theorem dL_law_1308 : decode cL_law 1308 = .ok (.iadd, 1) := dk_96 (dk_at dksL_law_50 3 rfl rfl)
theorem dL_law_1309 : decode cL_law 1309 = .ok (.iaload, 1) := dk_46 (dk_at dksL_law_50 4 rfl rfl)
theorem dL_law_1310 : decode cL_law 1310 = .ok (.aload_n 0, 1) := dk_42 (dk_at dksL_law_50 5 rfl rfl)
theorem dL_law_1311 : decode cL_law 1311 = .ok (.iload 4, 2) := dk_21 4 (dk_at dksL_law_50 6 rfl rfl)
theorem dL_law_1313 : decode cL_law 1313 = .ok (.iconst 3, 1) := dk_6 (dk_at dksL_law_50 8 rfl rfl)
theorem dL_law_1314 : decode cL_law 1314 = .ok (.iadd, 1) := dk_96 (dk_at dksL_law_50 9 rfl rfl)
theorem dL_law_1315 : decode cL_law 1315 = .ok (.iaload, 1) := dk_46 (dk_at dksL_law_50 10 rfl rfl)
theorem dL_law_1316 : decode cL_law 1316 = .ok (.aload_n 0, 1) := dk_42 (dk_at dksL_law_50 11 rfl rfl)
theorem dL_law_1317 : decode cL_law 1317 = .ok (.iload 4, 2) := dk_21 4 (dk_at dksL_law_50 12 rfl rfl)
theorem dL_law_1319 : decode cL_law 1319 = .ok (.iconst 4, 1) := dk_7 (dk_at dksL_law_50 14 rfl rfl)
theorem dL_law_1320 : decode cL_law 1320 = .ok (.iadd, 1) := dk_96 (dk_at dksL_law_50 15 rfl rfl)
theorem dL_law_1321 : decode cL_law 1321 = .ok (.iaload, 1) := dk_46 (dk_at dksL_law_50 16 rfl rfl)
theorem dL_law_1322 : decode cL_law 1322 = .ok (.invokevirtual 165, 3) := dk_182 0 165 (dk_at dksL_law_50 17 rfl rfl)
theorem dL_law_1325 : decode cL_law 1325 = .ok (.istore 6, 2) := dk_54 6 (dk_at dksL_law_50 20 rfl rfl)
theorem dL_law_1327 : decode cL_law 1327 = .ok (.aload_n 2, 1) := dk_44 (dk_at dksL_law_50 22 rfl rfl)
theorem dL_law_1328 : decode cL_law 1328 = .ok (.invokevirtual 107, 3) := dk_182 0 107 (dk_at dksL_law_51 0 rfl rfl)
theorem dL_law_1331 : decode cL_law 1331 = .ok (.iload 5, 2) := dk_21 5 (dk_at dksL_law_51 3 rfl rfl)
theorem dL_law_1333 : decode cL_law 1333 = .ok (.if_icmp .eq 5, 3) := dk_159 0 5 (dk_at dksL_law_51 5 rfl rfl)
theorem dL_law_1336 : decode cL_law 1336 = .ok (.iconst 0, 1) := dk_3 (dk_at dksL_law_51 8 rfl rfl)
theorem dL_law_1337 : decode cL_law 1337 = .ok (.ireturn, 1) := dk_172 (dk_at dksL_law_51 9 rfl rfl)
theorem dL_law_1338 : decode cL_law 1338 = .ok (.iload 5, 2) := dk_21 5 (dk_at dksL_law_51 10 rfl rfl)
theorem dL_law_1340 : decode cL_law 1340 = .ok (.ifCond .ne 15, 3) := dk_154 0 15 (dk_at dksL_law_51 12 rfl rfl)
theorem dL_law_1343 : decode cL_law 1343 = .ok (.aload_n 3, 1) := dk_45 (dk_at dksL_law_51 15 rfl rfl)
theorem dL_law_1344 : decode cL_law 1344 = .ok (.iconst 0, 1) := dk_3 (dk_at dksL_law_51 16 rfl rfl)
theorem dL_law_1345 : decode cL_law 1345 = .ok (.laload, 1) := dk_47 (dk_at dksL_law_51 17 rfl rfl)
theorem dL_law_1346 : decode cL_law 1346 = .ok (.iload 6, 2) := dk_21 6 (dk_at dksL_law_51 18 rfl rfl)
theorem dL_law_1348 : decode cL_law 1348 = .ok (.i2l, 1) := dk_133 (dk_at dksL_law_51 20 rfl rfl)
theorem dL_law_1349 : decode cL_law 1349 = .ok (.lcmp, 1) := dk_148 (dk_at dksL_law_51 21 rfl rfl)
theorem dL_law_1350 : decode cL_law 1350 = .ok (.ifCond .eq 5, 3) := dk_153 0 5 (dk_at dksL_law_52 0 rfl rfl)
theorem dL_law_1353 : decode cL_law 1353 = .ok (.iconst 0, 1) := dk_3 (dk_at dksL_law_52 3 rfl rfl)
theorem dL_law_1354 : decode cL_law 1354 = .ok (.ireturn, 1) := dk_172 (dk_at dksL_law_52 4 rfl rfl)
theorem dL_law_1355 : decode cL_law 1355 = .ok (.goto 761, 3) := dk_167 2 249 (dk_at dksL_law_52 5 rfl rfl)
theorem dL_law_1358 : decode cL_law 1358 = .ok (.aload_n 1, 1) := dk_43 (dk_at dksL_law_52 8 rfl rfl)
theorem dL_law_1359 : decode cL_law 1359 = .ok (.aload_n 0, 1) := dk_42 (dk_at dksL_law_52 9 rfl rfl)
theorem dL_law_1360 : decode cL_law 1360 = .ok (.iload 4, 2) := dk_21 4 (dk_at dksL_law_52 10 rfl rfl)
theorem dL_law_1362 : decode cL_law 1362 = .ok (.iconst 1, 1) := dk_4 (dk_at dksL_law_52 12 rfl rfl)
theorem dL_law_1363 : decode cL_law 1363 = .ok (.iadd, 1) := dk_96 (dk_at dksL_law_52 13 rfl rfl)
theorem dL_law_1364 : decode cL_law 1364 = .ok (.iaload, 1) := dk_46 (dk_at dksL_law_52 14 rfl rfl)
theorem dL_law_1365 : decode cL_law 1365 = .ok (.aload_n 0, 1) := dk_42 (dk_at dksL_law_52 15 rfl rfl)
theorem dL_law_1366 : decode cL_law 1366 = .ok (.iload 4, 2) := dk_21 4 (dk_at dksL_law_52 16 rfl rfl)
theorem dL_law_1368 : decode cL_law 1368 = .ok (.iconst 2, 1) := dk_5 (dk_at dksL_law_52 18 rfl rfl)
theorem dL_law_1369 : decode cL_law 1369 = .ok (.iadd, 1) := dk_96 (dk_at dksL_law_52 19 rfl rfl)
theorem dL_law_1370 : decode cL_law 1370 = .ok (.iaload, 1) := dk_46 (dk_at dksL_law_52 20 rfl rfl)
theorem dL_law_1371 : decode cL_law 1371 = .ok (.aload_n 3, 1) := dk_45 (dk_at dksL_law_52 21 rfl rfl)
theorem dL_law_1372 : decode cL_law 1372 = .ok (.invokestatic 166, 3) := dk_184 0 166 (dk_at dksL_law_53 0 rfl rfl)
theorem dL_law_1375 : decode cL_law 1375 = .ok (.istore 5, 2) := dk_54 5 (dk_at dksL_law_53 3 rfl rfl)
theorem dL_law_1377 : decode cL_law 1377 = .ok (.aload_n 2, 1) := dk_44 (dk_at dksL_law_53 5 rfl rfl)
theorem dL_law_1378 : decode cL_law 1378 = .ok (.aload_n 0, 1) := dk_42 (dk_at dksL_law_53 6 rfl rfl)
theorem dL_law_1379 : decode cL_law 1379 = .ok (.iload 4, 2) := dk_21 4 (dk_at dksL_law_53 7 rfl rfl)
theorem dL_law_1381 : decode cL_law 1381 = .ok (.iconst 1, 1) := dk_4 (dk_at dksL_law_53 9 rfl rfl)
theorem dL_law_1382 : decode cL_law 1382 = .ok (.iadd, 1) := dk_96 (dk_at dksL_law_53 10 rfl rfl)
theorem dL_law_1383 : decode cL_law 1383 = .ok (.iaload, 1) := dk_46 (dk_at dksL_law_53 11 rfl rfl)
theorem dL_law_1384 : decode cL_law 1384 = .ok (.aload_n 0, 1) := dk_42 (dk_at dksL_law_53 12 rfl rfl)
theorem dL_law_1385 : decode cL_law 1385 = .ok (.iload 4, 2) := dk_21 4 (dk_at dksL_law_53 13 rfl rfl)
theorem dL_law_1387 : decode cL_law 1387 = .ok (.iconst 2, 1) := dk_5 (dk_at dksL_law_53 15 rfl rfl)
theorem dL_law_1388 : decode cL_law 1388 = .ok (.iadd, 1) := dk_96 (dk_at dksL_law_53 16 rfl rfl)
theorem dL_law_1389 : decode cL_law 1389 = .ok (.iaload, 1) := dk_46 (dk_at dksL_law_53 17 rfl rfl)
theorem dL_law_1390 : decode cL_law 1390 = .ok (.invokevirtual 168, 3) := dk_182 0 168 (dk_at dksL_law_53 18 rfl rfl)
theorem dL_law_1393 : decode cL_law 1393 = .ok (.istore 6, 2) := dk_54 6 (dk_at dksL_law_53 21 rfl rfl)
theorem dL_law_1395 : decode cL_law 1395 = .ok (.aload_n 2, 1) := dk_44 (dk_at dksL_law_53 23 rfl rfl)
theorem dL_law_1396 : decode cL_law 1396 = .ok (.invokevirtual 107, 3) := dk_182 0 107 (dk_at dksL_law_54 0 rfl rfl)
theorem dL_law_1399 : decode cL_law 1399 = .ok (.iload 5, 2) := dk_21 5 (dk_at dksL_law_54 3 rfl rfl)
theorem dL_law_1401 : decode cL_law 1401 = .ok (.if_icmp .eq 5, 3) := dk_159 0 5 (dk_at dksL_law_54 5 rfl rfl)
theorem dL_law_1404 : decode cL_law 1404 = .ok (.iconst 0, 1) := dk_3 (dk_at dksL_law_54 8 rfl rfl)
theorem dL_law_1405 : decode cL_law 1405 = .ok (.ireturn, 1) := dk_172 (dk_at dksL_law_54 9 rfl rfl)
theorem dL_law_1406 : decode cL_law 1406 = .ok (.iload 5, 2) := dk_21 5 (dk_at dksL_law_54 10 rfl rfl)
theorem dL_law_1408 : decode cL_law 1408 = .ok (.ifCond .ne 15, 3) := dk_154 0 15 (dk_at dksL_law_54 12 rfl rfl)
theorem dL_law_1411 : decode cL_law 1411 = .ok (.aload_n 3, 1) := dk_45 (dk_at dksL_law_54 15 rfl rfl)
theorem dL_law_1412 : decode cL_law 1412 = .ok (.iconst 0, 1) := dk_3 (dk_at dksL_law_54 16 rfl rfl)
theorem dL_law_1413 : decode cL_law 1413 = .ok (.laload, 1) := dk_47 (dk_at dksL_law_54 17 rfl rfl)
theorem dL_law_1414 : decode cL_law 1414 = .ok (.iload 6, 2) := dk_21 6 (dk_at dksL_law_54 18 rfl rfl)
theorem dL_law_1416 : decode cL_law 1416 = .ok (.i2l, 1) := dk_133 (dk_at dksL_law_54 20 rfl rfl)
theorem dL_law_1417 : decode cL_law 1417 = .ok (.lcmp, 1) := dk_148 (dk_at dksL_law_54 21 rfl rfl)
theorem dL_law_1418 : decode cL_law 1418 = .ok (.ifCond .eq 5, 3) := dk_153 0 5 (dk_at dksL_law_55 0 rfl rfl)
theorem dL_law_1421 : decode cL_law 1421 = .ok (.iconst 0, 1) := dk_3 (dk_at dksL_law_55 3 rfl rfl)
theorem dL_law_1422 : decode cL_law 1422 = .ok (.ireturn, 1) := dk_172 (dk_at dksL_law_55 4 rfl rfl)
theorem dL_law_1423 : decode cL_law 1423 = .ok (.goto 693, 3) := dk_167 2 181 (dk_at dksL_law_55 5 rfl rfl)
theorem dL_law_1426 : decode cL_law 1426 = .ok (.aload_n 1, 1) := dk_43 (dk_at dksL_law_55 8 rfl rfl)
theorem dL_law_1427 : decode cL_law 1427 = .ok (.aload_n 0, 1) := dk_42 (dk_at dksL_law_55 9 rfl rfl)
theorem dL_law_1428 : decode cL_law 1428 = .ok (.iload 4, 2) := dk_21 4 (dk_at dksL_law_55 10 rfl rfl)
theorem dL_law_1430 : decode cL_law 1430 = .ok (.iconst 1, 1) := dk_4 (dk_at dksL_law_55 12 rfl rfl)
theorem dL_law_1431 : decode cL_law 1431 = .ok (.iadd, 1) := dk_96 (dk_at dksL_law_55 13 rfl rfl)
theorem dL_law_1432 : decode cL_law 1432 = .ok (.iaload, 1) := dk_46 (dk_at dksL_law_55 14 rfl rfl)
theorem dL_law_1433 : decode cL_law 1433 = .ok (.aload_n 0, 1) := dk_42 (dk_at dksL_law_55 15 rfl rfl)
theorem dL_law_1434 : decode cL_law 1434 = .ok (.iload 4, 2) := dk_21 4 (dk_at dksL_law_55 16 rfl rfl)
theorem dL_law_1436 : decode cL_law 1436 = .ok (.iconst 2, 1) := dk_5 (dk_at dksL_law_55 18 rfl rfl)
theorem dL_law_1437 : decode cL_law 1437 = .ok (.iadd, 1) := dk_96 (dk_at dksL_law_55 19 rfl rfl)
theorem dL_law_1438 : decode cL_law 1438 = .ok (.iaload, 1) := dk_46 (dk_at dksL_law_55 20 rfl rfl)
theorem dL_law_1439 : decode cL_law 1439 = .ok (.ifCond .eq 7, 3) := dk_153 0 7 (dk_at dksL_law_55 21 rfl rfl)
theorem dL_law_1442 : decode cL_law 1442 = .ok (.iconst 1, 1) := dk_4 (dk_at dksL_law_56 0 rfl rfl)
theorem dL_law_1443 : decode cL_law 1443 = .ok (.goto 4, 3) := dk_167 0 4 (dk_at dksL_law_56 1 rfl rfl)
theorem dL_law_1446 : decode cL_law 1446 = .ok (.iconst 0, 1) := dk_3 (dk_at dksL_law_56 4 rfl rfl)
theorem dL_law_1447 : decode cL_law 1447 = .ok (.invokestatic 169, 3) := dk_184 0 169 (dk_at dksL_law_56 5 rfl rfl)
theorem dL_law_1450 : decode cL_law 1450 = .ok (.istore 5, 2) := dk_54 5 (dk_at dksL_law_56 8 rfl rfl)
theorem dL_law_1452 : decode cL_law 1452 = .ok (.aload_n 2, 1) := dk_44 (dk_at dksL_law_56 10 rfl rfl)
theorem dL_law_1453 : decode cL_law 1453 = .ok (.aload_n 0, 1) := dk_42 (dk_at dksL_law_56 11 rfl rfl)
theorem dL_law_1454 : decode cL_law 1454 = .ok (.iload 4, 2) := dk_21 4 (dk_at dksL_law_56 12 rfl rfl)
theorem dL_law_1456 : decode cL_law 1456 = .ok (.iconst 1, 1) := dk_4 (dk_at dksL_law_56 14 rfl rfl)
theorem dL_law_1457 : decode cL_law 1457 = .ok (.iadd, 1) := dk_96 (dk_at dksL_law_56 15 rfl rfl)
theorem dL_law_1458 : decode cL_law 1458 = .ok (.iaload, 1) := dk_46 (dk_at dksL_law_56 16 rfl rfl)
theorem dL_law_1459 : decode cL_law 1459 = .ok (.aload_n 0, 1) := dk_42 (dk_at dksL_law_56 17 rfl rfl)
theorem dL_law_1460 : decode cL_law 1460 = .ok (.iload 4, 2) := dk_21 4 (dk_at dksL_law_56 18 rfl rfl)
theorem dL_law_1462 : decode cL_law 1462 = .ok (.iconst 2, 1) := dk_5 (dk_at dksL_law_56 20 rfl rfl)
theorem dL_law_1463 : decode cL_law 1463 = .ok (.iadd, 1) := dk_96 (dk_at dksL_law_56 21 rfl rfl)
theorem dL_law_1464 : decode cL_law 1464 = .ok (.iaload, 1) := dk_46 (dk_at dksL_law_56 22 rfl rfl)
theorem dL_law_1465 : decode cL_law 1465 = .ok (.ifCond .eq 7, 3) := dk_153 0 7 (dk_at dksL_law_57 0 rfl rfl)
theorem dL_law_1468 : decode cL_law 1468 = .ok (.iconst 1, 1) := dk_4 (dk_at dksL_law_57 3 rfl rfl)
theorem dL_law_1469 : decode cL_law 1469 = .ok (.goto 4, 3) := dk_167 0 4 (dk_at dksL_law_57 4 rfl rfl)
theorem dL_law_1472 : decode cL_law 1472 = .ok (.iconst 0, 1) := dk_3 (dk_at dksL_law_57 7 rfl rfl)
theorem dL_law_1473 : decode cL_law 1473 = .ok (.invokevirtual 172, 3) := dk_182 0 172 (dk_at dksL_law_57 8 rfl rfl)
theorem dL_law_1476 : decode cL_law 1476 = .ok (.aload_n 2, 1) := dk_44 (dk_at dksL_law_57 11 rfl rfl)
theorem dL_law_1477 : decode cL_law 1477 = .ok (.invokevirtual 107, 3) := dk_182 0 107 (dk_at dksL_law_57 12 rfl rfl)
theorem dL_law_1480 : decode cL_law 1480 = .ok (.iload 5, 2) := dk_21 5 (dk_at dksL_law_57 15 rfl rfl)
theorem dL_law_1482 : decode cL_law 1482 = .ok (.if_icmp .eq 5, 3) := dk_159 0 5 (dk_at dksL_law_57 17 rfl rfl)
theorem dL_law_1485 : decode cL_law 1485 = .ok (.iconst 0, 1) := dk_3 (dk_at dksL_law_57 20 rfl rfl)
theorem dL_law_1486 : decode cL_law 1486 = .ok (.ireturn, 1) := dk_172 (dk_at dksL_law_57 21 rfl rfl)
theorem dL_law_1487 : decode cL_law 1487 = .ok (.goto 629, 3) := dk_167 2 117 (dk_at dksL_law_58 0 rfl rfl)
theorem dL_law_1490 : decode cL_law 1490 = .ok (.aload_n 1, 1) := dk_43 (dk_at dksL_law_58 3 rfl rfl)
theorem dL_law_1491 : decode cL_law 1491 = .ok (.invokevirtual 173, 3) := dk_182 0 173 (dk_at dksL_law_58 4 rfl rfl)
theorem dL_law_1494 : decode cL_law 1494 = .ok (.aload_n 2, 1) := dk_44 (dk_at dksL_law_58 7 rfl rfl)
theorem dL_law_1495 : decode cL_law 1495 = .ok (.invokevirtual 176, 3) := dk_182 0 176 (dk_at dksL_law_58 8 rfl rfl)
theorem dL_law_1498 : decode cL_law 1498 = .ok (.if_icmp .eq 618, 3) := dk_159 2 106 (dk_at dksL_law_58 11 rfl rfl)
theorem dL_law_1501 : decode cL_law 1501 = .ok (.iconst 0, 1) := dk_3 (dk_at dksL_law_58 14 rfl rfl)
theorem dL_law_1502 : decode cL_law 1502 = .ok (.ireturn, 1) := dk_172 (dk_at dksL_law_58 15 rfl rfl)
theorem dL_law_1503 : decode cL_law 1503 = .ok (.aload_n 1, 1) := dk_43 (dk_at dksL_law_58 16 rfl rfl)
theorem dL_law_1504 : decode cL_law 1504 = .ok (.aload_n 0, 1) := dk_42 (dk_at dksL_law_58 17 rfl rfl)
theorem dL_law_1505 : decode cL_law 1505 = .ok (.iload 4, 2) := dk_21 4 (dk_at dksL_law_58 18 rfl rfl)
theorem dL_law_1507 : decode cL_law 1507 = .ok (.iconst 1, 1) := dk_4 (dk_at dksL_law_58 20 rfl rfl)
theorem dL_law_1508 : decode cL_law 1508 = .ok (.iadd, 1) := dk_96 (dk_at dksL_law_58 21 rfl rfl)
theorem dL_law_1509 : decode cL_law 1509 = .ok (.iaload, 1) := dk_46 (dk_at dksL_law_58 22 rfl rfl)
theorem dL_law_1510 : decode cL_law 1510 = .ok (.aload_n 0, 1) := dk_42 (dk_at dksL_law_58 23 rfl rfl)
theorem dL_law_1511 : decode cL_law 1511 = .ok (.iload 4, 2) := dk_21 4 (dk_at dksL_law_59 0 rfl rfl)
theorem dL_law_1513 : decode cL_law 1513 = .ok (.iconst 2, 1) := dk_5 (dk_at dksL_law_59 2 rfl rfl)
theorem dL_law_1514 : decode cL_law 1514 = .ok (.iadd, 1) := dk_96 (dk_at dksL_law_59 3 rfl rfl)
theorem dL_law_1515 : decode cL_law 1515 = .ok (.iaload, 1) := dk_46 (dk_at dksL_law_59 4 rfl rfl)
theorem dL_law_1516 : decode cL_law 1516 = .ok (.aload_n 3, 1) := dk_45 (dk_at dksL_law_59 5 rfl rfl)
theorem dL_law_1517 : decode cL_law 1517 = .ok (.invokestatic 177, 3) := dk_184 0 177 (dk_at dksL_law_59 6 rfl rfl)
theorem dL_law_1520 : decode cL_law 1520 = .ok (.istore 5, 2) := dk_54 5 (dk_at dksL_law_59 9 rfl rfl)
theorem dL_law_1522 : decode cL_law 1522 = .ok (.aload_n 2, 1) := dk_44 (dk_at dksL_law_59 11 rfl rfl)
theorem dL_law_1523 : decode cL_law 1523 = .ok (.aload_n 0, 1) := dk_42 (dk_at dksL_law_59 12 rfl rfl)
theorem dL_law_1524 : decode cL_law 1524 = .ok (.iload 4, 2) := dk_21 4 (dk_at dksL_law_59 13 rfl rfl)
theorem dL_law_1526 : decode cL_law 1526 = .ok (.iconst 1, 1) := dk_4 (dk_at dksL_law_59 15 rfl rfl)
theorem dL_law_1527 : decode cL_law 1527 = .ok (.iadd, 1) := dk_96 (dk_at dksL_law_59 16 rfl rfl)
theorem dL_law_1528 : decode cL_law 1528 = .ok (.iaload, 1) := dk_46 (dk_at dksL_law_59 17 rfl rfl)
theorem dL_law_1529 : decode cL_law 1529 = .ok (.aload_n 0, 1) := dk_42 (dk_at dksL_law_59 18 rfl rfl)
theorem dL_law_1530 : decode cL_law 1530 = .ok (.iload 4, 2) := dk_21 4 (dk_at dksL_law_59 19 rfl rfl)
theorem dL_law_1532 : decode cL_law 1532 = .ok (.iconst 2, 1) := dk_5 (dk_at dksL_law_59 21 rfl rfl)
theorem dL_law_1533 : decode cL_law 1533 = .ok (.iadd, 1) := dk_96 (dk_at dksL_law_59 22 rfl rfl)
theorem dL_law_1534 : decode cL_law 1534 = .ok (.iaload, 1) := dk_46 (dk_at dksL_law_59 23 rfl rfl)
theorem dL_law_1535 : decode cL_law 1535 = .ok (.invokevirtual 179, 3) := dk_182 0 179 (dk_at dksL_law_60 0 rfl rfl)
theorem dL_law_1538 : decode cL_law 1538 = .ok (.istore 6, 2) := dk_54 6 (dk_at dksL_law_60 3 rfl rfl)
theorem dL_law_1540 : decode cL_law 1540 = .ok (.aload_n 2, 1) := dk_44 (dk_at dksL_law_60 5 rfl rfl)
theorem dL_law_1541 : decode cL_law 1541 = .ok (.invokevirtual 107, 3) := dk_182 0 107 (dk_at dksL_law_60 6 rfl rfl)
theorem dL_law_1544 : decode cL_law 1544 = .ok (.iload 5, 2) := dk_21 5 (dk_at dksL_law_60 9 rfl rfl)
theorem dL_law_1546 : decode cL_law 1546 = .ok (.if_icmp .eq 5, 3) := dk_159 0 5 (dk_at dksL_law_60 11 rfl rfl)
theorem dL_law_1549 : decode cL_law 1549 = .ok (.iconst 0, 1) := dk_3 (dk_at dksL_law_60 14 rfl rfl)
theorem dL_law_1550 : decode cL_law 1550 = .ok (.ireturn, 1) := dk_172 (dk_at dksL_law_60 15 rfl rfl)
theorem dL_law_1551 : decode cL_law 1551 = .ok (.iload 5, 2) := dk_21 5 (dk_at dksL_law_60 16 rfl rfl)
theorem dL_law_1553 : decode cL_law 1553 = .ok (.ifCond .ne 15, 3) := dk_154 0 15 (dk_at dksL_law_60 18 rfl rfl)
theorem dL_law_1556 : decode cL_law 1556 = .ok (.aload_n 3, 1) := dk_45 (dk_at dksL_law_60 21 rfl rfl)
theorem dL_law_1557 : decode cL_law 1557 = .ok (.iconst 0, 1) := dk_3 (dk_at dksL_law_60 22 rfl rfl)
theorem dL_law_1558 : decode cL_law 1558 = .ok (.laload, 1) := dk_47 (dk_at dksL_law_60 23 rfl rfl)
theorem dL_law_1559 : decode cL_law 1559 = .ok (.iload 6, 2) := dk_21 6 (dk_at dksL_law_61 0 rfl rfl)
theorem dL_law_1561 : decode cL_law 1561 = .ok (.i2l, 1) := dk_133 (dk_at dksL_law_61 2 rfl rfl)
theorem dL_law_1562 : decode cL_law 1562 = .ok (.lcmp, 1) := dk_148 (dk_at dksL_law_61 3 rfl rfl)
theorem dL_law_1563 : decode cL_law 1563 = .ok (.ifCond .eq 5, 3) := dk_153 0 5 (dk_at dksL_law_61 4 rfl rfl)
theorem dL_law_1566 : decode cL_law 1566 = .ok (.iconst 0, 1) := dk_3 (dk_at dksL_law_61 7 rfl rfl)
theorem dL_law_1567 : decode cL_law 1567 = .ok (.ireturn, 1) := dk_172 (dk_at dksL_law_61 8 rfl rfl)
theorem dL_law_1568 : decode cL_law 1568 = .ok (.goto 548, 3) := dk_167 2 36 (dk_at dksL_law_61 9 rfl rfl)
theorem dL_law_1571 : decode cL_law 1571 = .ok (.aload_n 1, 1) := dk_43 (dk_at dksL_law_61 12 rfl rfl)
theorem dL_law_1572 : decode cL_law 1572 = .ok (.invokevirtual 180, 3) := dk_182 0 180 (dk_at dksL_law_61 13 rfl rfl)
theorem dL_law_1575 : decode cL_law 1575 = .ok (.aload_n 2, 1) := dk_44 (dk_at dksL_law_61 16 rfl rfl)
theorem dL_law_1576 : decode cL_law 1576 = .ok (.invokevirtual 183, 3) := dk_182 0 183 (dk_at dksL_law_61 17 rfl rfl)
theorem dL_law_1579 : decode cL_law 1579 = .ok (.if_icmp .eq 537, 3) := dk_159 2 25 (dk_at dksL_law_61 20 rfl rfl)
theorem dL_law_1582 : decode cL_law 1582 = .ok (.iconst 0, 1) := dk_3 (dk_at dksL_law_61 23 rfl rfl)
theorem dL_law_1583 : decode cL_law 1583 = .ok (.ireturn, 1) := dk_172 (dk_at dksL_law_62 0 rfl rfl)
theorem dL_law_1584 : decode cL_law 1584 = .ok (.aload_n 1, 1) := dk_43 (dk_at dksL_law_62 1 rfl rfl)
theorem dL_law_1585 : decode cL_law 1585 = .ok (.aload_n 0, 1) := dk_42 (dk_at dksL_law_62 2 rfl rfl)
theorem dL_law_1586 : decode cL_law 1586 = .ok (.iload 4, 2) := dk_21 4 (dk_at dksL_law_62 3 rfl rfl)
theorem dL_law_1588 : decode cL_law 1588 = .ok (.iconst 1, 1) := dk_4 (dk_at dksL_law_62 5 rfl rfl)
theorem dL_law_1589 : decode cL_law 1589 = .ok (.iadd, 1) := dk_96 (dk_at dksL_law_62 6 rfl rfl)
theorem dL_law_1590 : decode cL_law 1590 = .ok (.iaload, 1) := dk_46 (dk_at dksL_law_62 7 rfl rfl)
theorem dL_law_1591 : decode cL_law 1591 = .ok (.aload_n 0, 1) := dk_42 (dk_at dksL_law_62 8 rfl rfl)
theorem dL_law_1592 : decode cL_law 1592 = .ok (.iload 4, 2) := dk_21 4 (dk_at dksL_law_62 9 rfl rfl)
theorem dL_law_1594 : decode cL_law 1594 = .ok (.iconst 2, 1) := dk_5 (dk_at dksL_law_62 11 rfl rfl)
theorem dL_law_1595 : decode cL_law 1595 = .ok (.iadd, 1) := dk_96 (dk_at dksL_law_62 12 rfl rfl)
theorem dL_law_1596 : decode cL_law 1596 = .ok (.iaload, 1) := dk_46 (dk_at dksL_law_62 13 rfl rfl)
theorem dL_law_1597 : decode cL_law 1597 = .ok (.aload_n 3, 1) := dk_45 (dk_at dksL_law_62 14 rfl rfl)
theorem dL_law_1598 : decode cL_law 1598 = .ok (.invokestatic 184, 3) := dk_184 0 184 (dk_at dksL_law_62 15 rfl rfl)
theorem dL_law_1601 : decode cL_law 1601 = .ok (.istore 5, 2) := dk_54 5 (dk_at dksL_law_62 18 rfl rfl)
theorem dL_law_1603 : decode cL_law 1603 = .ok (.aload_n 2, 1) := dk_44 (dk_at dksL_law_62 20 rfl rfl)
theorem dL_law_1604 : decode cL_law 1604 = .ok (.aload_n 0, 1) := dk_42 (dk_at dksL_law_62 21 rfl rfl)
theorem dL_law_1605 : decode cL_law 1605 = .ok (.iload 4, 2) := dk_21 4 (dk_at dksL_law_62 22 rfl rfl)
theorem dL_law_1607 : decode cL_law 1607 = .ok (.iconst 1, 1) := dk_4 (dk_at dksL_law_63 0 rfl rfl)
theorem dL_law_1608 : decode cL_law 1608 = .ok (.iadd, 1) := dk_96 (dk_at dksL_law_63 1 rfl rfl)
theorem dL_law_1609 : decode cL_law 1609 = .ok (.iaload, 1) := dk_46 (dk_at dksL_law_63 2 rfl rfl)
theorem dL_law_1610 : decode cL_law 1610 = .ok (.aload_n 0, 1) := dk_42 (dk_at dksL_law_63 3 rfl rfl)
theorem dL_law_1611 : decode cL_law 1611 = .ok (.iload 4, 2) := dk_21 4 (dk_at dksL_law_63 4 rfl rfl)
theorem dL_law_1613 : decode cL_law 1613 = .ok (.iconst 2, 1) := dk_5 (dk_at dksL_law_63 6 rfl rfl)
theorem dL_law_1614 : decode cL_law 1614 = .ok (.iadd, 1) := dk_96 (dk_at dksL_law_63 7 rfl rfl)
theorem dL_law_1615 : decode cL_law 1615 = .ok (.iaload, 1) := dk_46 (dk_at dksL_law_63 8 rfl rfl)
theorem dL_law_1616 : decode cL_law 1616 = .ok (.invokevirtual 186, 3) := dk_182 0 186 (dk_at dksL_law_63 9 rfl rfl)
theorem dL_law_1619 : decode cL_law 1619 = .ok (.istore 6, 2) := dk_54 6 (dk_at dksL_law_63 12 rfl rfl)
theorem dL_law_1621 : decode cL_law 1621 = .ok (.aload_n 2, 1) := dk_44 (dk_at dksL_law_63 14 rfl rfl)
theorem dL_law_1622 : decode cL_law 1622 = .ok (.invokevirtual 107, 3) := dk_182 0 107 (dk_at dksL_law_63 15 rfl rfl)
theorem dL_law_1625 : decode cL_law 1625 = .ok (.iload 5, 2) := dk_21 5 (dk_at dksL_law_63 18 rfl rfl)
theorem dL_law_1627 : decode cL_law 1627 = .ok (.if_icmp .eq 5, 3) := dk_159 0 5 (dk_at dksL_law_63 20 rfl rfl)
theorem dL_law_1630 : decode cL_law 1630 = .ok (.iconst 0, 1) := dk_3 (dk_at dksL_law_63 23 rfl rfl)
theorem dL_law_1631 : decode cL_law 1631 = .ok (.ireturn, 1) := dk_172 (dk_at dksL_law_64 0 rfl rfl)
theorem dL_law_1632 : decode cL_law 1632 = .ok (.iload 5, 2) := dk_21 5 (dk_at dksL_law_64 1 rfl rfl)
theorem dL_law_1634 : decode cL_law 1634 = .ok (.ifCond .ne 15, 3) := dk_154 0 15 (dk_at dksL_law_64 3 rfl rfl)
theorem dL_law_1637 : decode cL_law 1637 = .ok (.aload_n 3, 1) := dk_45 (dk_at dksL_law_64 6 rfl rfl)
theorem dL_law_1638 : decode cL_law 1638 = .ok (.iconst 0, 1) := dk_3 (dk_at dksL_law_64 7 rfl rfl)
theorem dL_law_1639 : decode cL_law 1639 = .ok (.laload, 1) := dk_47 (dk_at dksL_law_64 8 rfl rfl)
theorem dL_law_1640 : decode cL_law 1640 = .ok (.iload 6, 2) := dk_21 6 (dk_at dksL_law_64 9 rfl rfl)
theorem dL_law_1642 : decode cL_law 1642 = .ok (.i2l, 1) := dk_133 (dk_at dksL_law_64 11 rfl rfl)
theorem dL_law_1643 : decode cL_law 1643 = .ok (.lcmp, 1) := dk_148 (dk_at dksL_law_64 12 rfl rfl)
theorem dL_law_1644 : decode cL_law 1644 = .ok (.ifCond .eq 5, 3) := dk_153 0 5 (dk_at dksL_law_64 13 rfl rfl)
theorem dL_law_1647 : decode cL_law 1647 = .ok (.iconst 0, 1) := dk_3 (dk_at dksL_law_64 16 rfl rfl)
theorem dL_law_1648 : decode cL_law 1648 = .ok (.ireturn, 1) := dk_172 (dk_at dksL_law_64 17 rfl rfl)
theorem dL_law_1649 : decode cL_law 1649 = .ok (.goto 467, 3) := dk_167 1 211 (dk_at dksL_law_64 18 rfl rfl)
theorem dL_law_1652 : decode cL_law 1652 = .ok (.aload_n 1, 1) := dk_43 (dk_at dksL_law_64 21 rfl rfl)
theorem dL_law_1653 : decode cL_law 1653 = .ok (.invokevirtual 187, 3) := dk_182 0 187 (dk_at dksL_law_65 0 rfl rfl)
theorem dL_law_1656 : decode cL_law 1656 = .ok (.aload_n 2, 1) := dk_44 (dk_at dksL_law_65 3 rfl rfl)
theorem dL_law_1657 : decode cL_law 1657 = .ok (.invokevirtual 190, 3) := dk_182 0 190 (dk_at dksL_law_65 4 rfl rfl)
theorem dL_law_1660 : decode cL_law 1660 = .ok (.if_icmp .eq 456, 3) := dk_159 1 200 (dk_at dksL_law_65 7 rfl rfl)
theorem dL_law_1663 : decode cL_law 1663 = .ok (.iconst 0, 1) := dk_3 (dk_at dksL_law_65 10 rfl rfl)
theorem dL_law_1664 : decode cL_law 1664 = .ok (.ireturn, 1) := dk_172 (dk_at dksL_law_65 11 rfl rfl)
theorem dL_law_1665 : decode cL_law 1665 = .ok (.aload_n 1, 1) := dk_43 (dk_at dksL_law_65 12 rfl rfl)
theorem dL_law_1666 : decode cL_law 1666 = .ok (.invokevirtual 191, 3) := dk_182 0 191 (dk_at dksL_law_65 13 rfl rfl)
theorem dL_law_1669 : decode cL_law 1669 = .ok (.aload_n 2, 1) := dk_44 (dk_at dksL_law_65 16 rfl rfl)
theorem dL_law_1670 : decode cL_law 1670 = .ok (.invokevirtual 194, 3) := dk_182 0 194 (dk_at dksL_law_65 17 rfl rfl)
theorem dL_law_1673 : decode cL_law 1673 = .ok (.if_icmp .eq 443, 3) := dk_159 1 187 (dk_at dksL_law_65 20 rfl rfl)
theorem dL_law_1676 : decode cL_law 1676 = .ok (.iconst 0, 1) := dk_3 (dk_at dksL_law_65 23 rfl rfl)
theorem dL_law_1677 : decode cL_law 1677 = .ok (.ireturn, 1) := dk_172 (dk_at dksL_law_66 0 rfl rfl)
theorem dL_law_1678 : decode cL_law 1678 = .ok (.aload_n 1, 1) := dk_43 (dk_at dksL_law_66 1 rfl rfl)
theorem dL_law_1679 : decode cL_law 1679 = .ok (.invokevirtual 195, 3) := dk_182 0 195 (dk_at dksL_law_66 2 rfl rfl)
theorem dL_law_1682 : decode cL_law 1682 = .ok (.aload_n 2, 1) := dk_44 (dk_at dksL_law_66 5 rfl rfl)
theorem dL_law_1683 : decode cL_law 1683 = .ok (.invokevirtual 198, 3) := dk_182 0 198 (dk_at dksL_law_66 6 rfl rfl)
theorem dL_law_1686 : decode cL_law 1686 = .ok (.if_icmp .eq 430, 3) := dk_159 1 174 (dk_at dksL_law_66 9 rfl rfl)
theorem dL_law_1689 : decode cL_law 1689 = .ok (.iconst 0, 1) := dk_3 (dk_at dksL_law_66 12 rfl rfl)
theorem dL_law_1690 : decode cL_law 1690 = .ok (.ireturn, 1) := dk_172 (dk_at dksL_law_66 13 rfl rfl)
theorem dL_law_1691 : decode cL_law 1691 = .ok (.aload_n 1, 1) := dk_43 (dk_at dksL_law_66 14 rfl rfl)
theorem dL_law_1692 : decode cL_law 1692 = .ok (.invokevirtual 199, 3) := dk_182 0 199 (dk_at dksL_law_66 15 rfl rfl)
theorem dL_law_1695 : decode cL_law 1695 = .ok (.aload_n 2, 1) := dk_44 (dk_at dksL_law_66 18 rfl rfl)
theorem dL_law_1696 : decode cL_law 1696 = .ok (.invokevirtual 202, 3) := dk_182 0 202 (dk_at dksL_law_66 19 rfl rfl)
theorem dL_law_1699 : decode cL_law 1699 = .ok (.if_icmp .eq 417, 3) := dk_159 1 161 (dk_at dksL_law_67 0 rfl rfl)
theorem dL_law_1702 : decode cL_law 1702 = .ok (.iconst 0, 1) := dk_3 (dk_at dksL_law_67 3 rfl rfl)
theorem dL_law_1703 : decode cL_law 1703 = .ok (.ireturn, 1) := dk_172 (dk_at dksL_law_67 4 rfl rfl)
theorem dL_law_1704 : decode cL_law 1704 = .ok (.aload_n 1, 1) := dk_43 (dk_at dksL_law_67 5 rfl rfl)
theorem dL_law_1705 : decode cL_law 1705 = .ok (.invokevirtual 203, 3) := dk_182 0 203 (dk_at dksL_law_67 6 rfl rfl)
theorem dL_law_1708 : decode cL_law 1708 = .ok (.aload_n 2, 1) := dk_44 (dk_at dksL_law_67 9 rfl rfl)
theorem dL_law_1709 : decode cL_law 1709 = .ok (.invokevirtual 206, 3) := dk_182 0 206 (dk_at dksL_law_67 10 rfl rfl)
theorem dL_law_1712 : decode cL_law 1712 = .ok (.if_icmp .eq 404, 3) := dk_159 1 148 (dk_at dksL_law_67 13 rfl rfl)
theorem dL_law_1715 : decode cL_law 1715 = .ok (.iconst 0, 1) := dk_3 (dk_at dksL_law_67 16 rfl rfl)
theorem dL_law_1716 : decode cL_law 1716 = .ok (.ireturn, 1) := dk_172 (dk_at dksL_law_67 17 rfl rfl)
theorem dL_law_1717 : decode cL_law 1717 = .ok (.aload_n 1, 1) := dk_43 (dk_at dksL_law_67 18 rfl rfl)
theorem dL_law_1718 : decode cL_law 1718 = .ok (.aload_n 0, 1) := dk_42 (dk_at dksL_law_67 19 rfl rfl)
theorem dL_law_1719 : decode cL_law 1719 = .ok (.iload 4, 2) := dk_21 4 (dk_at dksL_law_67 20 rfl rfl)
theorem dL_law_1721 : decode cL_law 1721 = .ok (.iconst 1, 1) := dk_4 (dk_at dksL_law_67 22 rfl rfl)
theorem dL_law_1722 : decode cL_law 1722 = .ok (.iadd, 1) := dk_96 (dk_at dksL_law_67 23 rfl rfl)
theorem dL_law_1723 : decode cL_law 1723 = .ok (.iaload, 1) := dk_46 (dk_at dksL_law_68 0 rfl rfl)
theorem dL_law_1724 : decode cL_law 1724 = .ok (.aload_n 3, 1) := dk_45 (dk_at dksL_law_68 1 rfl rfl)
theorem dL_law_1725 : decode cL_law 1725 = .ok (.invokestatic 207, 3) := dk_184 0 207 (dk_at dksL_law_68 2 rfl rfl)
theorem dL_law_1728 : decode cL_law 1728 = .ok (.istore 5, 2) := dk_54 5 (dk_at dksL_law_68 5 rfl rfl)
theorem dL_law_1730 : decode cL_law 1730 = .ok (.aload_n 2, 1) := dk_44 (dk_at dksL_law_68 7 rfl rfl)
theorem dL_law_1731 : decode cL_law 1731 = .ok (.aload_n 0, 1) := dk_42 (dk_at dksL_law_68 8 rfl rfl)
theorem dL_law_1732 : decode cL_law 1732 = .ok (.iload 4, 2) := dk_21 4 (dk_at dksL_law_68 9 rfl rfl)
theorem dL_law_1734 : decode cL_law 1734 = .ok (.iconst 1, 1) := dk_4 (dk_at dksL_law_68 11 rfl rfl)
theorem dL_law_1735 : decode cL_law 1735 = .ok (.iadd, 1) := dk_96 (dk_at dksL_law_68 12 rfl rfl)
theorem dL_law_1736 : decode cL_law 1736 = .ok (.iaload, 1) := dk_46 (dk_at dksL_law_68 13 rfl rfl)
theorem dL_law_1737 : decode cL_law 1737 = .ok (.invokevirtual 209, 3) := dk_182 0 209 (dk_at dksL_law_68 14 rfl rfl)
theorem dL_law_1740 : decode cL_law 1740 = .ok (.istore 6, 2) := dk_54 6 (dk_at dksL_law_68 17 rfl rfl)
theorem dL_law_1742 : decode cL_law 1742 = .ok (.aload_n 2, 1) := dk_44 (dk_at dksL_law_68 19 rfl rfl)
theorem dL_law_1743 : decode cL_law 1743 = .ok (.invokevirtual 107, 3) := dk_182 0 107 (dk_at dksL_law_68 20 rfl rfl)
theorem dL_law_1746 : decode cL_law 1746 = .ok (.iload 5, 2) := dk_21 5 (dk_at dksL_law_69 0 rfl rfl)
theorem dL_law_1748 : decode cL_law 1748 = .ok (.if_icmp .eq 5, 3) := dk_159 0 5 (dk_at dksL_law_69 2 rfl rfl)
theorem dL_law_1751 : decode cL_law 1751 = .ok (.iconst 0, 1) := dk_3 (dk_at dksL_law_69 5 rfl rfl)
theorem dL_law_1752 : decode cL_law 1752 = .ok (.ireturn, 1) := dk_172 (dk_at dksL_law_69 6 rfl rfl)
theorem dL_law_1753 : decode cL_law 1753 = .ok (.iload 5, 2) := dk_21 5 (dk_at dksL_law_69 7 rfl rfl)
theorem dL_law_1755 : decode cL_law 1755 = .ok (.ifCond .ne 15, 3) := dk_154 0 15 (dk_at dksL_law_69 9 rfl rfl)
theorem dL_law_1758 : decode cL_law 1758 = .ok (.aload_n 3, 1) := dk_45 (dk_at dksL_law_69 12 rfl rfl)
theorem dL_law_1759 : decode cL_law 1759 = .ok (.iconst 0, 1) := dk_3 (dk_at dksL_law_69 13 rfl rfl)
theorem dL_law_1760 : decode cL_law 1760 = .ok (.laload, 1) := dk_47 (dk_at dksL_law_69 14 rfl rfl)
theorem dL_law_1761 : decode cL_law 1761 = .ok (.iload 6, 2) := dk_21 6 (dk_at dksL_law_69 15 rfl rfl)
theorem dL_law_1763 : decode cL_law 1763 = .ok (.i2l, 1) := dk_133 (dk_at dksL_law_69 17 rfl rfl)
theorem dL_law_1764 : decode cL_law 1764 = .ok (.lcmp, 1) := dk_148 (dk_at dksL_law_69 18 rfl rfl)
theorem dL_law_1765 : decode cL_law 1765 = .ok (.ifCond .eq 5, 3) := dk_153 0 5 (dk_at dksL_law_69 19 rfl rfl)
theorem dL_law_1768 : decode cL_law 1768 = .ok (.iconst 0, 1) := dk_3 (dk_at dksL_law_69 22 rfl rfl)
theorem dL_law_1769 : decode cL_law 1769 = .ok (.ireturn, 1) := dk_172 (dk_at dksL_law_69 23 rfl rfl)
theorem dL_law_1770 : decode cL_law 1770 = .ok (.goto 346, 3) := dk_167 1 90 (dk_at dksL_law_70 0 rfl rfl)
theorem dL_law_1773 : decode cL_law 1773 = .ok (.aload_n 1, 1) := dk_43 (dk_at dksL_law_70 3 rfl rfl)
theorem dL_law_1774 : decode cL_law 1774 = .ok (.aload_n 0, 1) := dk_42 (dk_at dksL_law_70 4 rfl rfl)
theorem dL_law_1775 : decode cL_law 1775 = .ok (.iload 4, 2) := dk_21 4 (dk_at dksL_law_70 5 rfl rfl)
theorem dL_law_1777 : decode cL_law 1777 = .ok (.iconst 1, 1) := dk_4 (dk_at dksL_law_70 7 rfl rfl)
theorem dL_law_1778 : decode cL_law 1778 = .ok (.iadd, 1) := dk_96 (dk_at dksL_law_70 8 rfl rfl)
theorem dL_law_1779 : decode cL_law 1779 = .ok (.iaload, 1) := dk_46 (dk_at dksL_law_70 9 rfl rfl)
theorem dL_law_1780 : decode cL_law 1780 = .ok (.aload_n 3, 1) := dk_45 (dk_at dksL_law_70 10 rfl rfl)
theorem dL_law_1781 : decode cL_law 1781 = .ok (.invokestatic 210, 3) := dk_184 0 210 (dk_at dksL_law_70 11 rfl rfl)
theorem dL_law_1784 : decode cL_law 1784 = .ok (.istore 5, 2) := dk_54 5 (dk_at dksL_law_70 14 rfl rfl)
theorem dL_law_1786 : decode cL_law 1786 = .ok (.aload_n 2, 1) := dk_44 (dk_at dksL_law_70 16 rfl rfl)
theorem dL_law_1787 : decode cL_law 1787 = .ok (.aload_n 0, 1) := dk_42 (dk_at dksL_law_70 17 rfl rfl)
theorem dL_law_1788 : decode cL_law 1788 = .ok (.iload 4, 2) := dk_21 4 (dk_at dksL_law_70 18 rfl rfl)
theorem dL_law_1790 : decode cL_law 1790 = .ok (.iconst 1, 1) := dk_4 (dk_at dksL_law_70 20 rfl rfl)
theorem dL_law_1791 : decode cL_law 1791 = .ok (.iadd, 1) := dk_96 (dk_at dksL_law_70 21 rfl rfl)
theorem dL_law_1792 : decode cL_law 1792 = .ok (.iaload, 1) := dk_46 (dk_at dksL_law_70 22 rfl rfl)
theorem dL_law_1793 : decode cL_law 1793 = .ok (.invokevirtual 212, 3) := dk_182 0 212 (dk_at dksL_law_71 0 rfl rfl)
theorem dL_law_1796 : decode cL_law 1796 = .ok (.istore 6, 2) := dk_54 6 (dk_at dksL_law_71 3 rfl rfl)
theorem dL_law_1798 : decode cL_law 1798 = .ok (.aload_n 2, 1) := dk_44 (dk_at dksL_law_71 5 rfl rfl)
theorem dL_law_1799 : decode cL_law 1799 = .ok (.invokevirtual 107, 3) := dk_182 0 107 (dk_at dksL_law_71 6 rfl rfl)
theorem dL_law_1802 : decode cL_law 1802 = .ok (.iload 5, 2) := dk_21 5 (dk_at dksL_law_71 9 rfl rfl)
theorem dL_law_1804 : decode cL_law 1804 = .ok (.if_icmp .eq 5, 3) := dk_159 0 5 (dk_at dksL_law_71 11 rfl rfl)
theorem dL_law_1807 : decode cL_law 1807 = .ok (.iconst 0, 1) := dk_3 (dk_at dksL_law_71 14 rfl rfl)
theorem dL_law_1808 : decode cL_law 1808 = .ok (.ireturn, 1) := dk_172 (dk_at dksL_law_71 15 rfl rfl)
theorem dL_law_1809 : decode cL_law 1809 = .ok (.iload 5, 2) := dk_21 5 (dk_at dksL_law_71 16 rfl rfl)
theorem dL_law_1811 : decode cL_law 1811 = .ok (.ifCond .ne 15, 3) := dk_154 0 15 (dk_at dksL_law_71 18 rfl rfl)
theorem dL_law_1814 : decode cL_law 1814 = .ok (.aload_n 3, 1) := dk_45 (dk_at dksL_law_71 21 rfl rfl)
theorem dL_law_1815 : decode cL_law 1815 = .ok (.iconst 0, 1) := dk_3 (dk_at dksL_law_71 22 rfl rfl)
theorem dL_law_1816 : decode cL_law 1816 = .ok (.laload, 1) := dk_47 (dk_at dksL_law_71 23 rfl rfl)
theorem dL_law_1817 : decode cL_law 1817 = .ok (.iload 6, 2) := dk_21 6 (dk_at dksL_law_72 0 rfl rfl)
theorem dL_law_1819 : decode cL_law 1819 = .ok (.i2l, 1) := dk_133 (dk_at dksL_law_72 2 rfl rfl)
theorem dL_law_1820 : decode cL_law 1820 = .ok (.lcmp, 1) := dk_148 (dk_at dksL_law_72 3 rfl rfl)
theorem dL_law_1821 : decode cL_law 1821 = .ok (.ifCond .eq 5, 3) := dk_153 0 5 (dk_at dksL_law_72 4 rfl rfl)
theorem dL_law_1824 : decode cL_law 1824 = .ok (.iconst 0, 1) := dk_3 (dk_at dksL_law_72 7 rfl rfl)
theorem dL_law_1825 : decode cL_law 1825 = .ok (.ireturn, 1) := dk_172 (dk_at dksL_law_72 8 rfl rfl)
theorem dL_law_1826 : decode cL_law 1826 = .ok (.goto 290, 3) := dk_167 1 34 (dk_at dksL_law_72 9 rfl rfl)
theorem dL_law_1829 : decode cL_law 1829 = .ok (.aload_n 1, 1) := dk_43 (dk_at dksL_law_72 12 rfl rfl)
theorem dL_law_1830 : decode cL_law 1830 = .ok (.invokevirtual 213, 3) := dk_182 0 213 (dk_at dksL_law_72 13 rfl rfl)
theorem dL_law_1833 : decode cL_law 1833 = .ok (.aload_n 2, 1) := dk_44 (dk_at dksL_law_72 16 rfl rfl)
theorem dL_law_1834 : decode cL_law 1834 = .ok (.invokevirtual 216, 3) := dk_182 0 216 (dk_at dksL_law_72 17 rfl rfl)
theorem dL_law_1837 : decode cL_law 1837 = .ok (.if_icmp .eq 279, 3) := dk_159 1 23 (dk_at dksL_law_72 20 rfl rfl)
theorem dL_law_1840 : decode cL_law 1840 = .ok (.iconst 0, 1) := dk_3 (dk_at dksL_law_72 23 rfl rfl)
theorem dL_law_1841 : decode cL_law 1841 = .ok (.ireturn, 1) := dk_172 (dk_at dksL_law_73 0 rfl rfl)
theorem dL_law_1842 : decode cL_law 1842 = .ok (.aload_n 1, 1) := dk_43 (dk_at dksL_law_73 1 rfl rfl)
theorem dL_law_1843 : decode cL_law 1843 = .ok (.aload_n 3, 1) := dk_45 (dk_at dksL_law_73 2 rfl rfl)
theorem dL_law_1844 : decode cL_law 1844 = .ok (.invokestatic 217, 3) := dk_184 0 217 (dk_at dksL_law_73 3 rfl rfl)
theorem dL_law_1847 : decode cL_law 1847 = .ok (.istore 5, 2) := dk_54 5 (dk_at dksL_law_73 6 rfl rfl)
theorem dL_law_1849 : decode cL_law 1849 = .ok (.aload_n 2, 1) := dk_44 (dk_at dksL_law_73 8 rfl rfl)
theorem dL_law_1850 : decode cL_law 1850 = .ok (.invokevirtual 220, 3) := dk_182 0 220 (dk_at dksL_law_73 9 rfl rfl)
theorem dL_law_1853 : decode cL_law 1853 = .ok (.istore 6, 2) := dk_54 6 (dk_at dksL_law_73 12 rfl rfl)
theorem dL_law_1855 : decode cL_law 1855 = .ok (.aload_n 2, 1) := dk_44 (dk_at dksL_law_73 14 rfl rfl)
theorem dL_law_1856 : decode cL_law 1856 = .ok (.invokevirtual 107, 3) := dk_182 0 107 (dk_at dksL_law_73 15 rfl rfl)
theorem dL_law_1859 : decode cL_law 1859 = .ok (.iload 5, 2) := dk_21 5 (dk_at dksL_law_73 18 rfl rfl)
theorem dL_law_1861 : decode cL_law 1861 = .ok (.if_icmp .eq 5, 3) := dk_159 0 5 (dk_at dksL_law_73 20 rfl rfl)
theorem dL_law_1864 : decode cL_law 1864 = .ok (.iconst 0, 1) := dk_3 (dk_at dksL_law_73 23 rfl rfl)
theorem dL_law_1865 : decode cL_law 1865 = .ok (.ireturn, 1) := dk_172 (dk_at dksL_law_74 0 rfl rfl)
theorem dL_law_1866 : decode cL_law 1866 = .ok (.iload 5, 2) := dk_21 5 (dk_at dksL_law_74 1 rfl rfl)
theorem dL_law_1868 : decode cL_law 1868 = .ok (.ifCond .ne 15, 3) := dk_154 0 15 (dk_at dksL_law_74 3 rfl rfl)
theorem dL_law_1871 : decode cL_law 1871 = .ok (.aload_n 3, 1) := dk_45 (dk_at dksL_law_74 6 rfl rfl)
theorem dL_law_1872 : decode cL_law 1872 = .ok (.iconst 0, 1) := dk_3 (dk_at dksL_law_74 7 rfl rfl)
theorem dL_law_1873 : decode cL_law 1873 = .ok (.laload, 1) := dk_47 (dk_at dksL_law_74 8 rfl rfl)
theorem dL_law_1874 : decode cL_law 1874 = .ok (.iload 6, 2) := dk_21 6 (dk_at dksL_law_74 9 rfl rfl)
theorem dL_law_1876 : decode cL_law 1876 = .ok (.i2l, 1) := dk_133 (dk_at dksL_law_74 11 rfl rfl)
theorem dL_law_1877 : decode cL_law 1877 = .ok (.lcmp, 1) := dk_148 (dk_at dksL_law_74 12 rfl rfl)
theorem dL_law_1878 : decode cL_law 1878 = .ok (.ifCond .eq 5, 3) := dk_153 0 5 (dk_at dksL_law_74 13 rfl rfl)
theorem dL_law_1881 : decode cL_law 1881 = .ok (.iconst 0, 1) := dk_3 (dk_at dksL_law_74 16 rfl rfl)
theorem dL_law_1882 : decode cL_law 1882 = .ok (.ireturn, 1) := dk_172 (dk_at dksL_law_74 17 rfl rfl)
theorem dL_law_1883 : decode cL_law 1883 = .ok (.goto 233, 3) := dk_167 0 233 (dk_at dksL_law_74 18 rfl rfl)
theorem dL_law_1886 : decode cL_law 1886 = .ok (.aload_n 1, 1) := dk_43 (dk_at dksL_law_74 21 rfl rfl)
theorem dL_law_1887 : decode cL_law 1887 = .ok (.aload_n 0, 1) := dk_42 (dk_at dksL_law_74 22 rfl rfl)
theorem dL_law_1888 : decode cL_law 1888 = .ok (.iload 4, 2) := dk_21 4 (dk_at dksL_law_75 0 rfl rfl)
theorem dL_law_1890 : decode cL_law 1890 = .ok (.iconst 1, 1) := dk_4 (dk_at dksL_law_75 2 rfl rfl)
theorem dL_law_1891 : decode cL_law 1891 = .ok (.iadd, 1) := dk_96 (dk_at dksL_law_75 3 rfl rfl)
theorem dL_law_1892 : decode cL_law 1892 = .ok (.iaload, 1) := dk_46 (dk_at dksL_law_75 4 rfl rfl)
theorem dL_law_1893 : decode cL_law 1893 = .ok (.aload_n 0, 1) := dk_42 (dk_at dksL_law_75 5 rfl rfl)
theorem dL_law_1894 : decode cL_law 1894 = .ok (.iload 4, 2) := dk_21 4 (dk_at dksL_law_75 6 rfl rfl)
theorem dL_law_1896 : decode cL_law 1896 = .ok (.iconst 2, 1) := dk_5 (dk_at dksL_law_75 8 rfl rfl)
theorem dL_law_1897 : decode cL_law 1897 = .ok (.iadd, 1) := dk_96 (dk_at dksL_law_75 9 rfl rfl)
theorem dL_law_1898 : decode cL_law 1898 = .ok (.iaload, 1) := dk_46 (dk_at dksL_law_75 10 rfl rfl)
theorem dL_law_1899 : decode cL_law 1899 = .ok (.aload_n 3, 1) := dk_45 (dk_at dksL_law_75 11 rfl rfl)
theorem dL_law_1900 : decode cL_law 1900 = .ok (.invokestatic 221, 3) := dk_184 0 221 (dk_at dksL_law_75 12 rfl rfl)
theorem dL_law_1903 : decode cL_law 1903 = .ok (.istore 5, 2) := dk_54 5 (dk_at dksL_law_75 15 rfl rfl)
theorem dL_law_1905 : decode cL_law 1905 = .ok (.aload_n 2, 1) := dk_44 (dk_at dksL_law_75 17 rfl rfl)
theorem dL_law_1906 : decode cL_law 1906 = .ok (.aload_n 0, 1) := dk_42 (dk_at dksL_law_75 18 rfl rfl)
theorem dL_law_1907 : decode cL_law 1907 = .ok (.iload 4, 2) := dk_21 4 (dk_at dksL_law_75 19 rfl rfl)
theorem dL_law_1909 : decode cL_law 1909 = .ok (.iconst 1, 1) := dk_4 (dk_at dksL_law_75 21 rfl rfl)
theorem dL_law_1910 : decode cL_law 1910 = .ok (.iadd, 1) := dk_96 (dk_at dksL_law_75 22 rfl rfl)
theorem dL_law_1911 : decode cL_law 1911 = .ok (.iaload, 1) := dk_46 (dk_at dksL_law_75 23 rfl rfl)
theorem dL_law_1912 : decode cL_law 1912 = .ok (.aload_n 0, 1) := dk_42 (dk_at dksL_law_76 0 rfl rfl)
theorem dL_law_1913 : decode cL_law 1913 = .ok (.iload 4, 2) := dk_21 4 (dk_at dksL_law_76 1 rfl rfl)
theorem dL_law_1915 : decode cL_law 1915 = .ok (.iconst 2, 1) := dk_5 (dk_at dksL_law_76 3 rfl rfl)
theorem dL_law_1916 : decode cL_law 1916 = .ok (.iadd, 1) := dk_96 (dk_at dksL_law_76 4 rfl rfl)
theorem dL_law_1917 : decode cL_law 1917 = .ok (.iaload, 1) := dk_46 (dk_at dksL_law_76 5 rfl rfl)
theorem dL_law_1918 : decode cL_law 1918 = .ok (.invokevirtual 223, 3) := dk_182 0 223 (dk_at dksL_law_76 6 rfl rfl)
theorem dL_law_1921 : decode cL_law 1921 = .ok (.istore 6, 2) := dk_54 6 (dk_at dksL_law_76 9 rfl rfl)
theorem dL_law_1923 : decode cL_law 1923 = .ok (.aload_n 2, 1) := dk_44 (dk_at dksL_law_76 11 rfl rfl)
theorem dL_law_1924 : decode cL_law 1924 = .ok (.invokevirtual 107, 3) := dk_182 0 107 (dk_at dksL_law_76 12 rfl rfl)
theorem dL_law_1927 : decode cL_law 1927 = .ok (.iload 5, 2) := dk_21 5 (dk_at dksL_law_76 15 rfl rfl)
theorem dL_law_1929 : decode cL_law 1929 = .ok (.if_icmp .eq 5, 3) := dk_159 0 5 (dk_at dksL_law_76 17 rfl rfl)
theorem dL_law_1932 : decode cL_law 1932 = .ok (.iconst 0, 1) := dk_3 (dk_at dksL_law_76 20 rfl rfl)
theorem dL_law_1933 : decode cL_law 1933 = .ok (.ireturn, 1) := dk_172 (dk_at dksL_law_76 21 rfl rfl)
theorem dL_law_1934 : decode cL_law 1934 = .ok (.iload 5, 2) := dk_21 5 (dk_at dksL_law_76 22 rfl rfl)
theorem dL_law_1936 : decode cL_law 1936 = .ok (.ifCond .ne 15, 3) := dk_154 0 15 (dk_at dksL_law_77 0 rfl rfl)
theorem dL_law_1939 : decode cL_law 1939 = .ok (.aload_n 3, 1) := dk_45 (dk_at dksL_law_77 3 rfl rfl)
theorem dL_law_1940 : decode cL_law 1940 = .ok (.iconst 0, 1) := dk_3 (dk_at dksL_law_77 4 rfl rfl)
theorem dL_law_1941 : decode cL_law 1941 = .ok (.laload, 1) := dk_47 (dk_at dksL_law_77 5 rfl rfl)
theorem dL_law_1942 : decode cL_law 1942 = .ok (.iload 6, 2) := dk_21 6 (dk_at dksL_law_77 6 rfl rfl)
theorem dL_law_1944 : decode cL_law 1944 = .ok (.i2l, 1) := dk_133 (dk_at dksL_law_77 8 rfl rfl)
theorem dL_law_1945 : decode cL_law 1945 = .ok (.lcmp, 1) := dk_148 (dk_at dksL_law_77 9 rfl rfl)
theorem dL_law_1946 : decode cL_law 1946 = .ok (.ifCond .eq 5, 3) := dk_153 0 5 (dk_at dksL_law_77 10 rfl rfl)
theorem dL_law_1949 : decode cL_law 1949 = .ok (.iconst 0, 1) := dk_3 (dk_at dksL_law_77 13 rfl rfl)
theorem dL_law_1950 : decode cL_law 1950 = .ok (.ireturn, 1) := dk_172 (dk_at dksL_law_77 14 rfl rfl)
theorem dL_law_1951 : decode cL_law 1951 = .ok (.goto 165, 3) := dk_167 0 165 (dk_at dksL_law_77 15 rfl rfl)
theorem dL_law_1954 : decode cL_law 1954 = .ok (.aload_n 1, 1) := dk_43 (dk_at dksL_law_77 18 rfl rfl)
theorem dL_law_1955 : decode cL_law 1955 = .ok (.aload_n 0, 1) := dk_42 (dk_at dksL_law_77 19 rfl rfl)
theorem dL_law_1956 : decode cL_law 1956 = .ok (.iload 4, 2) := dk_21 4 (dk_at dksL_law_77 20 rfl rfl)
theorem dL_law_1958 : decode cL_law 1958 = .ok (.iconst 1, 1) := dk_4 (dk_at dksL_law_77 22 rfl rfl)
theorem dL_law_1959 : decode cL_law 1959 = .ok (.iadd, 1) := dk_96 (dk_at dksL_law_77 23 rfl rfl)
theorem dL_law_1960 : decode cL_law 1960 = .ok (.iaload, 1) := dk_46 (dk_at dksL_law_78 0 rfl rfl)
theorem dL_law_1961 : decode cL_law 1961 = .ok (.aload_n 0, 1) := dk_42 (dk_at dksL_law_78 1 rfl rfl)
theorem dL_law_1962 : decode cL_law 1962 = .ok (.iload 4, 2) := dk_21 4 (dk_at dksL_law_78 2 rfl rfl)
theorem dL_law_1964 : decode cL_law 1964 = .ok (.iconst 2, 1) := dk_5 (dk_at dksL_law_78 4 rfl rfl)
theorem dL_law_1965 : decode cL_law 1965 = .ok (.iadd, 1) := dk_96 (dk_at dksL_law_78 5 rfl rfl)
theorem dL_law_1966 : decode cL_law 1966 = .ok (.iaload, 1) := dk_46 (dk_at dksL_law_78 6 rfl rfl)
theorem dL_law_1967 : decode cL_law 1967 = .ok (.aload_n 0, 1) := dk_42 (dk_at dksL_law_78 7 rfl rfl)
theorem dL_law_1968 : decode cL_law 1968 = .ok (.iload 4, 2) := dk_21 4 (dk_at dksL_law_78 8 rfl rfl)
theorem dL_law_1970 : decode cL_law 1970 = .ok (.iconst 3, 1) := dk_6 (dk_at dksL_law_78 10 rfl rfl)
theorem dL_law_1971 : decode cL_law 1971 = .ok (.iadd, 1) := dk_96 (dk_at dksL_law_78 11 rfl rfl)
theorem dL_law_1972 : decode cL_law 1972 = .ok (.iaload, 1) := dk_46 (dk_at dksL_law_78 12 rfl rfl)
theorem dL_law_1973 : decode cL_law 1973 = .ok (.aload_n 0, 1) := dk_42 (dk_at dksL_law_78 13 rfl rfl)
theorem dL_law_1974 : decode cL_law 1974 = .ok (.iload 4, 2) := dk_21 4 (dk_at dksL_law_78 14 rfl rfl)
theorem dL_law_1976 : decode cL_law 1976 = .ok (.iconst 4, 1) := dk_7 (dk_at dksL_law_78 16 rfl rfl)
theorem dL_law_1977 : decode cL_law 1977 = .ok (.iadd, 1) := dk_96 (dk_at dksL_law_78 17 rfl rfl)
theorem dL_law_1978 : decode cL_law 1978 = .ok (.iaload, 1) := dk_46 (dk_at dksL_law_78 18 rfl rfl)
theorem dL_law_1979 : decode cL_law 1979 = .ok (.aload_n 0, 1) := dk_42 (dk_at dksL_law_78 19 rfl rfl)
theorem dL_law_1980 : decode cL_law 1980 = .ok (.iload 4, 2) := dk_21 4 (dk_at dksL_law_78 20 rfl rfl)
theorem dL_law_1982 : decode cL_law 1982 = .ok (.iconst 5, 1) := dk_8 (dk_at dksL_law_78 22 rfl rfl)
theorem dL_law_1983 : decode cL_law 1983 = .ok (.iadd, 1) := dk_96 (dk_at dksL_law_78 23 rfl rfl)
theorem dL_law_1984 : decode cL_law 1984 = .ok (.iaload, 1) := dk_46 (dk_at dksL_law_79 0 rfl rfl)
theorem dL_law_1985 : decode cL_law 1985 = .ok (.aload_n 0, 1) := dk_42 (dk_at dksL_law_79 1 rfl rfl)
theorem dL_law_1986 : decode cL_law 1986 = .ok (.iload 4, 2) := dk_21 4 (dk_at dksL_law_79 2 rfl rfl)
theorem dL_law_1988 : decode cL_law 1988 = .ok (.bipush 6, 2) := dk_16 6 (dk_at dksL_law_79 4 rfl rfl)
theorem dL_law_1990 : decode cL_law 1990 = .ok (.iadd, 1) := dk_96 (dk_at dksL_law_79 6 rfl rfl)
theorem dL_law_1991 : decode cL_law 1991 = .ok (.iaload, 1) := dk_46 (dk_at dksL_law_79 7 rfl rfl)
theorem dL_law_1992 : decode cL_law 1992 = .ok (.aload_n 3, 1) := dk_45 (dk_at dksL_law_79 8 rfl rfl)
theorem dL_law_1993 : decode cL_law 1993 = .ok (.invokestatic 224, 3) := dk_184 0 224 (dk_at dksL_law_79 9 rfl rfl)
theorem dL_law_1996 : decode cL_law 1996 = .ok (.istore 5, 2) := dk_54 5 (dk_at dksL_law_79 12 rfl rfl)
theorem dL_law_1998 : decode cL_law 1998 = .ok (.aload_n 2, 1) := dk_44 (dk_at dksL_law_79 14 rfl rfl)
theorem dL_law_1999 : decode cL_law 1999 = .ok (.aload_n 0, 1) := dk_42 (dk_at dksL_law_79 15 rfl rfl)
theorem dL_law_2000 : decode cL_law 2000 = .ok (.iload 4, 2) := dk_21 4 (dk_at dksL_law_79 16 rfl rfl)
theorem dL_law_2002 : decode cL_law 2002 = .ok (.iconst 1, 1) := dk_4 (dk_at dksL_law_79 18 rfl rfl)
theorem dL_law_2003 : decode cL_law 2003 = .ok (.iadd, 1) := dk_96 (dk_at dksL_law_79 19 rfl rfl)
theorem dL_law_2004 : decode cL_law 2004 = .ok (.iaload, 1) := dk_46 (dk_at dksL_law_79 20 rfl rfl)
theorem dL_law_2005 : decode cL_law 2005 = .ok (.aload_n 0, 1) := dk_42 (dk_at dksL_law_79 21 rfl rfl)
theorem dL_law_2006 : decode cL_law 2006 = .ok (.iload 4, 2) := dk_21 4 (dk_at dksL_law_79 22 rfl rfl)
theorem dL_law_2008 : decode cL_law 2008 = .ok (.iconst 2, 1) := dk_5 (dk_at dksL_law_80 0 rfl rfl)
theorem dL_law_2009 : decode cL_law 2009 = .ok (.iadd, 1) := dk_96 (dk_at dksL_law_80 1 rfl rfl)
theorem dL_law_2010 : decode cL_law 2010 = .ok (.iaload, 1) := dk_46 (dk_at dksL_law_80 2 rfl rfl)
theorem dL_law_2011 : decode cL_law 2011 = .ok (.aload_n 0, 1) := dk_42 (dk_at dksL_law_80 3 rfl rfl)
theorem dL_law_2012 : decode cL_law 2012 = .ok (.iload 4, 2) := dk_21 4 (dk_at dksL_law_80 4 rfl rfl)
theorem dL_law_2014 : decode cL_law 2014 = .ok (.iconst 3, 1) := dk_6 (dk_at dksL_law_80 6 rfl rfl)
theorem dL_law_2015 : decode cL_law 2015 = .ok (.iadd, 1) := dk_96 (dk_at dksL_law_80 7 rfl rfl)
theorem dL_law_2016 : decode cL_law 2016 = .ok (.iaload, 1) := dk_46 (dk_at dksL_law_80 8 rfl rfl)
theorem dL_law_2017 : decode cL_law 2017 = .ok (.aload_n 0, 1) := dk_42 (dk_at dksL_law_80 9 rfl rfl)
theorem dL_law_2018 : decode cL_law 2018 = .ok (.iload 4, 2) := dk_21 4 (dk_at dksL_law_80 10 rfl rfl)
theorem dL_law_2020 : decode cL_law 2020 = .ok (.iconst 4, 1) := dk_7 (dk_at dksL_law_80 12 rfl rfl)
theorem dL_law_2021 : decode cL_law 2021 = .ok (.iadd, 1) := dk_96 (dk_at dksL_law_80 13 rfl rfl)
theorem dL_law_2022 : decode cL_law 2022 = .ok (.iaload, 1) := dk_46 (dk_at dksL_law_80 14 rfl rfl)
theorem dL_law_2023 : decode cL_law 2023 = .ok (.aload_n 0, 1) := dk_42 (dk_at dksL_law_80 15 rfl rfl)
theorem dL_law_2024 : decode cL_law 2024 = .ok (.iload 4, 2) := dk_21 4 (dk_at dksL_law_80 16 rfl rfl)
theorem dL_law_2026 : decode cL_law 2026 = .ok (.iconst 5, 1) := dk_8 (dk_at dksL_law_80 18 rfl rfl)
theorem dL_law_2027 : decode cL_law 2027 = .ok (.iadd, 1) := dk_96 (dk_at dksL_law_80 19 rfl rfl)
theorem dL_law_2028 : decode cL_law 2028 = .ok (.iaload, 1) := dk_46 (dk_at dksL_law_80 20 rfl rfl)
theorem dL_law_2029 : decode cL_law 2029 = .ok (.aload_n 0, 1) := dk_42 (dk_at dksL_law_80 21 rfl rfl)
theorem dL_law_2030 : decode cL_law 2030 = .ok (.iload 4, 2) := dk_21 4 (dk_at dksL_law_80 22 rfl rfl)
theorem dL_law_2032 : decode cL_law 2032 = .ok (.bipush 6, 2) := dk_16 6 (dk_at dksL_law_81 0 rfl rfl)
theorem dL_law_2034 : decode cL_law 2034 = .ok (.iadd, 1) := dk_96 (dk_at dksL_law_81 2 rfl rfl)
theorem dL_law_2035 : decode cL_law 2035 = .ok (.iaload, 1) := dk_46 (dk_at dksL_law_81 3 rfl rfl)
theorem dL_law_2036 : decode cL_law 2036 = .ok (.invokevirtual 227, 3) := dk_182 0 227 (dk_at dksL_law_81 4 rfl rfl)
theorem dL_law_2039 : decode cL_law 2039 = .ok (.istore 6, 2) := dk_54 6 (dk_at dksL_law_81 7 rfl rfl)
theorem dL_law_2041 : decode cL_law 2041 = .ok (.aload_n 2, 1) := dk_44 (dk_at dksL_law_81 9 rfl rfl)
theorem dL_law_2042 : decode cL_law 2042 = .ok (.invokevirtual 107, 3) := dk_182 0 107 (dk_at dksL_law_81 10 rfl rfl)
theorem dL_law_2045 : decode cL_law 2045 = .ok (.iload 5, 2) := dk_21 5 (dk_at dksL_law_81 13 rfl rfl)
theorem dL_law_2047 : decode cL_law 2047 = .ok (.if_icmp .eq 5, 3) := dk_159 0 5 (dk_at dksL_law_81 15 rfl rfl)
theorem dL_law_2050 : decode cL_law 2050 = .ok (.iconst 0, 1) := dk_3 (dk_at dksL_law_81 18 rfl rfl)
theorem dL_law_2051 : decode cL_law 2051 = .ok (.ireturn, 1) := dk_172 (dk_at dksL_law_81 19 rfl rfl)
theorem dL_law_2052 : decode cL_law 2052 = .ok (.iload 5, 2) := dk_21 5 (dk_at dksL_law_81 20 rfl rfl)
theorem dL_law_2054 : decode cL_law 2054 = .ok (.ifCond .ne 15, 3) := dk_154 0 15 (dk_at dksL_law_82 0 rfl rfl)
theorem dL_law_2057 : decode cL_law 2057 = .ok (.aload_n 3, 1) := dk_45 (dk_at dksL_law_82 3 rfl rfl)
theorem dL_law_2058 : decode cL_law 2058 = .ok (.iconst 0, 1) := dk_3 (dk_at dksL_law_82 4 rfl rfl)
theorem dL_law_2059 : decode cL_law 2059 = .ok (.laload, 1) := dk_47 (dk_at dksL_law_82 5 rfl rfl)
theorem dL_law_2060 : decode cL_law 2060 = .ok (.iload 6, 2) := dk_21 6 (dk_at dksL_law_82 6 rfl rfl)
theorem dL_law_2062 : decode cL_law 2062 = .ok (.i2l, 1) := dk_133 (dk_at dksL_law_82 8 rfl rfl)
theorem dL_law_2063 : decode cL_law 2063 = .ok (.lcmp, 1) := dk_148 (dk_at dksL_law_82 9 rfl rfl)
theorem dL_law_2064 : decode cL_law 2064 = .ok (.ifCond .eq 5, 3) := dk_153 0 5 (dk_at dksL_law_82 10 rfl rfl)
theorem dL_law_2067 : decode cL_law 2067 = .ok (.iconst 0, 1) := dk_3 (dk_at dksL_law_82 13 rfl rfl)
theorem dL_law_2068 : decode cL_law 2068 = .ok (.ireturn, 1) := dk_172 (dk_at dksL_law_82 14 rfl rfl)
theorem dL_law_2069 : decode cL_law 2069 = .ok (.goto 47, 3) := dk_167 0 47 (dk_at dksL_law_82 15 rfl rfl)
theorem dL_law_2072 : decode cL_law 2072 = .ok (.aload_n 1, 1) := dk_43 (dk_at dksL_law_82 18 rfl rfl)
theorem dL_law_2073 : decode cL_law 2073 = .ok (.aload_n 3, 1) := dk_45 (dk_at dksL_law_82 19 rfl rfl)
theorem dL_law_2074 : decode cL_law 2074 = .ok (.invokestatic 228, 3) := dk_184 0 228 (dk_at dksL_law_82 20 rfl rfl)
theorem dL_law_2077 : decode cL_law 2077 = .ok (.istore 5, 2) := dk_54 5 (dk_at dksL_law_83 0 rfl rfl)
theorem dL_law_2079 : decode cL_law 2079 = .ok (.aload_n 2, 1) := dk_44 (dk_at dksL_law_83 2 rfl rfl)
theorem dL_law_2080 : decode cL_law 2080 = .ok (.invokevirtual 230, 3) := dk_182 0 230 (dk_at dksL_law_83 3 rfl rfl)
theorem dL_law_2083 : decode cL_law 2083 = .ok (.istore 6, 2) := dk_54 6 (dk_at dksL_law_83 6 rfl rfl)
theorem dL_law_2085 : decode cL_law 2085 = .ok (.aload_n 2, 1) := dk_44 (dk_at dksL_law_83 8 rfl rfl)
theorem dL_law_2086 : decode cL_law 2086 = .ok (.invokevirtual 107, 3) := dk_182 0 107 (dk_at dksL_law_83 9 rfl rfl)
theorem dL_law_2089 : decode cL_law 2089 = .ok (.iload 5, 2) := dk_21 5 (dk_at dksL_law_83 12 rfl rfl)
theorem dL_law_2091 : decode cL_law 2091 = .ok (.if_icmp .eq 5, 3) := dk_159 0 5 (dk_at dksL_law_83 14 rfl rfl)
theorem dL_law_2094 : decode cL_law 2094 = .ok (.iconst 0, 1) := dk_3 (dk_at dksL_law_83 17 rfl rfl)
theorem dL_law_2095 : decode cL_law 2095 = .ok (.ireturn, 1) := dk_172 (dk_at dksL_law_83 18 rfl rfl)
theorem dL_law_2096 : decode cL_law 2096 = .ok (.iload 5, 2) := dk_21 5 (dk_at dksL_law_83 19 rfl rfl)
theorem dL_law_2098 : decode cL_law 2098 = .ok (.ifCond .ne 15, 3) := dk_154 0 15 (dk_at dksL_law_83 21 rfl rfl)
theorem dL_law_2101 : decode cL_law 2101 = .ok (.aload_n 3, 1) := dk_45 (dk_at dksL_law_84 0 rfl rfl)
theorem dL_law_2102 : decode cL_law 2102 = .ok (.iconst 0, 1) := dk_3 (dk_at dksL_law_84 1 rfl rfl)
theorem dL_law_2103 : decode cL_law 2103 = .ok (.laload, 1) := dk_47 (dk_at dksL_law_84 2 rfl rfl)
theorem dL_law_2104 : decode cL_law 2104 = .ok (.iload 6, 2) := dk_21 6 (dk_at dksL_law_84 3 rfl rfl)
theorem dL_law_2106 : decode cL_law 2106 = .ok (.i2l, 1) := dk_133 (dk_at dksL_law_84 5 rfl rfl)
theorem dL_law_2107 : decode cL_law 2107 = .ok (.lcmp, 1) := dk_148 (dk_at dksL_law_84 6 rfl rfl)
theorem dL_law_2108 : decode cL_law 2108 = .ok (.ifCond .eq 5, 3) := dk_153 0 5 (dk_at dksL_law_84 7 rfl rfl)
theorem dL_law_2111 : decode cL_law 2111 = .ok (.iconst 0, 1) := dk_3 (dk_at dksL_law_84 10 rfl rfl)
theorem dL_law_2112 : decode cL_law 2112 = .ok (.ireturn, 1) := dk_172 (dk_at dksL_law_84 11 rfl rfl)
theorem dL_law_2113 : decode cL_law 2113 = .ok (.goto 3, 3) := dk_167 0 3 (dk_at dksL_law_84 12 rfl rfl)
theorem dL_law_2116 : decode cL_law 2116 = .ok (.iinc 4 7, 3) := dk_132 4 7 (dk_at dksL_law_84 15 rfl rfl)
theorem dL_law_2119 : decode cL_law 2119 = .ok (.goto (-2096), 3) := dk_167 247 208 (dk_at dksL_law_84 18 rfl rfl)
theorem dL_law_2122 : decode cL_law 2122 = .ok (.iconst 1, 1) := dk_4 (dk_at dksL_law_84 21 rfl rfl)
theorem dL_law_2123 : decode cL_law 2123 = .ok (.ireturn, 1) := dk_172 (dk_at dksL_law_84 22 rfl rfl)
