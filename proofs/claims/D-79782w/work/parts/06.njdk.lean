/-! java/util/AbstractCollection -/
set_option maxRecDepth 100000
def RJ0 : String := "java/util/AbstractCollection"
abbrev cJ0_init : ByteArray := prog_41_method_1_code
def yJ0_init : MethodName := ⟨RJ0, "<init>", "()V"⟩
theorem dJ0_init_0 : decode cJ0_init 0 = .ok (.aload_n 0, 1) := by decide +kernel
theorem dJ0_init_1 : decode cJ0_init 1 = .ok (.invokespecial 1, 3) := by decide +kernel
theorem dJ0_init_4 : decode cJ0_init 4 = .ok (.return_, 1) := by decide +kernel
theorem q90 : (Jvm.Cond.initialized "java/util/AbstractCollection") ∈ lw_all := lw_g (lw_at lw_m1 6 rfl) rfl
theorem q213 : (Jvm.Cond.instanceMethod ({ cls := "java/util/AbstractCollection", name := "<init>", desc := "()V" } : Jvm.MethodName)) ∈ lw_all := lw_g (lw_at lw_m1 129 rfl) rfl
theorem q214 : (Jvm.Cond.code ({ cls := "java/util/AbstractCollection", name := "<init>", desc := "()V" } : Jvm.MethodName) prog_41_method_1_code (1 : Nat) (Option.none : Option Jvm.ClassFile.FieldType)) ∈ lw_all := lw_g (lw_at lw_m1 130 rfl) rfl
theorem q215 : (Jvm.Cond.methodLink "java/util/AbstractCollection" (1 : Nat) ({ cls := "java/lang/Object", name := "<init>", desc := "()V" } : Jvm.MethodName)) ∈ lw_all := lw_g (lw_at lw_m1 131 rfl) rfl
/-! java/util/AbstractList -/
set_option maxRecDepth 100000
def RJ1 : String := "java/util/AbstractList"
abbrev cJ1_init : ByteArray := prog_42_method_1_code
def yJ1_init : MethodName := ⟨RJ1, "<init>", "()V"⟩
def dkwJ1_init_0 : List UInt8 := [42, 183, 0, 1, 42, 3, 181, 0, 7, 177]
abbrev dktJ1_init_0 : List UInt8 := dkwJ1_init_0 ++ []
theorem dksJ1_init_0 : cJ1_init.data.toList.drop 0 = dktJ1_init_0 := by decide +kernel
theorem dJ1_init_0 : decode cJ1_init 0 = .ok (.aload_n 0, 1) := dk_42 (dk_at dksJ1_init_0 0 rfl rfl)
theorem dJ1_init_1 : decode cJ1_init 1 = .ok (.invokespecial 1, 3) := dk_183 0 1 (dk_at dksJ1_init_0 1 rfl rfl)
theorem dJ1_init_4 : decode cJ1_init 4 = .ok (.aload_n 0, 1) := dk_42 (dk_at dksJ1_init_0 4 rfl rfl)
theorem dJ1_init_5 : decode cJ1_init 5 = .ok (.iconst 0, 1) := dk_3 (dk_at dksJ1_init_0 5 rfl rfl)
theorem dJ1_init_6 : decode cJ1_init 6 = .ok (.putfield 7, 3) := dk_181 0 7 (dk_at dksJ1_init_0 6 rfl rfl)
theorem dJ1_init_9 : decode cJ1_init 9 = .ok (.return_, 1) := dk_177 (dk_at dksJ1_init_0 9 rfl rfl)
theorem q91 : (Jvm.Cond.initialized "java/util/AbstractList") ∈ lw_all := lw_g (lw_at lw_m1 7 rfl) rfl
theorem q210 : (Jvm.Cond.instanceMethod ({ cls := "java/util/AbstractList", name := "<init>", desc := "()V" } : Jvm.MethodName)) ∈ lw_all := lw_g (lw_at lw_m1 126 rfl) rfl
theorem q211 : (Jvm.Cond.code ({ cls := "java/util/AbstractList", name := "<init>", desc := "()V" } : Jvm.MethodName) prog_42_method_1_code (1 : Nat) (Option.none : Option Jvm.ClassFile.FieldType)) ∈ lw_all := lw_g (lw_at lw_m1 127 rfl) rfl
theorem q212 : (Jvm.Cond.methodLink "java/util/AbstractList" (1 : Nat) ({ cls := "java/util/AbstractCollection", name := "<init>", desc := "()V" } : Jvm.MethodName)) ∈ lw_all := lw_g (lw_at lw_m1 128 rfl) rfl
theorem q220 : (Jvm.Cond.fieldLink "java/util/AbstractList" (7 : Nat) "java/util/AbstractList" "modCount" "I") ∈ lw_all := lw_g (lw_at lw_m1 136 rfl) rfl
theorem q228 : (Jvm.Cond.soleField "java/util/AbstractList" "modCount") ∈ lw_all := lw_g (lw_at lw_m1 144 rfl) rfl
/-! java/util/ArrayList -/
set_option maxRecDepth 100000
def RJ2 : String := "java/util/ArrayList"
def TJ2 : u_T := fun k => match k with
  | 0 => ("java/util/AbstractList", "modCount", "I", false)
  | 1 => ("java/util/ArrayList", "elementData", "[Ljava/lang/Object;", false)
  | _ => ("java/util/ArrayList", "size", "I", false)
def tyJ2 : Nat → FieldType := fun k => match k with
  | 0 => .int
  | 1 => .array (.object "java/lang/Object")
  | _ => .int
abbrev wsJ20 : List Cond := u_ws RJ2 TJ2 3
theorem nmJ2 : ∀ a, a < 3 → ∀ b, b < 3 → a ≠ b → (TJ2 a).2.1 ≠ (TJ2 b).2.1 := by decide +kernel
theorem tyJ2_ok : ∀ k, k < 3 → parseFieldDescriptor (TJ2 k).2.2.1 = some (tyJ2 k) := by decide +kernel
abbrev cJ2_init : ByteArray := prog_43_method_2_code
def yJ2_init : MethodName := ⟨RJ2, "<init>", "()V"⟩
def dkwJ2_init_0 : List UInt8 := [42, 183, 0, 1, 42, 178, 0, 39, 181, 0, 9, 177]
abbrev dktJ2_init_0 : List UInt8 := dkwJ2_init_0 ++ []
theorem dksJ2_init_0 : cJ2_init.data.toList.drop 0 = dktJ2_init_0 := by decide +kernel
theorem dJ2_init_0 : decode cJ2_init 0 = .ok (.aload_n 0, 1) := dk_42 (dk_at dksJ2_init_0 0 rfl rfl)
theorem dJ2_init_1 : decode cJ2_init 1 = .ok (.invokespecial 1, 3) := dk_183 0 1 (dk_at dksJ2_init_0 1 rfl rfl)
theorem dJ2_init_4 : decode cJ2_init 4 = .ok (.aload_n 0, 1) := dk_42 (dk_at dksJ2_init_0 4 rfl rfl)
theorem dJ2_init_5 : decode cJ2_init 5 = .ok (.getstatic 39, 3) := dk_178 0 39 (dk_at dksJ2_init_0 5 rfl rfl)
theorem dJ2_init_8 : decode cJ2_init 8 = .ok (.putfield 9, 3) := dk_181 0 9 (dk_at dksJ2_init_0 8 rfl rfl)
theorem dJ2_init_11 : decode cJ2_init 11 = .ok (.return_, 1) := dk_177 (dk_at dksJ2_init_0 11 rfl rfl)
abbrev cJ2_size : ByteArray := prog_43_method_8_code
def yJ2_size : MethodName := ⟨RJ2, "size", "()I"⟩
theorem dJ2_size_0 : decode cJ2_size 0 = .ok (.aload_n 0, 1) := by decide +kernel
theorem dJ2_size_1 : decode cJ2_size 1 = .ok (.getfield 48, 3) := by decide +kernel
theorem dJ2_size_4 : decode cJ2_size 4 = .ok (.ireturn, 1) := by decide +kernel
abbrev cJ2_clear : ByteArray := prog_43_method_40_code
def yJ2_clear : MethodName := ⟨RJ2, "clear", "()V"⟩
def dkwJ2_clear_1 : List UInt8 := [181, 0, 48, 62, 29, 28, 162, 0, 13, 43, 29, 1, 83, 132, 3, 1, 167, 255, 244, 177]
abbrev dktJ2_clear_1 : List UInt8 := dkwJ2_clear_1 ++ []
def dkwJ2_clear_0 : List UInt8 := [42, 89, 180, 0, 63, 4, 96, 181, 0, 63, 42, 180, 0, 9, 76, 42, 180, 0, 48, 61, 42, 3, 90]
abbrev dktJ2_clear_0 : List UInt8 := dkwJ2_clear_0 ++ dktJ2_clear_1
theorem dksJ2_clear_0 : cJ2_clear.data.toList.drop 0 = dktJ2_clear_0 := by decide +kernel
theorem dksJ2_clear_1 : cJ2_clear.data.toList.drop 23 = dktJ2_clear_1 := dk_seg dksJ2_clear_0 23 rfl rfl
theorem dJ2_clear_0 : decode cJ2_clear 0 = .ok (.aload_n 0, 1) := dk_42 (dk_at dksJ2_clear_0 0 rfl rfl)
theorem dJ2_clear_1 : decode cJ2_clear 1 = .ok (.dup, 1) := dk_89 (dk_at dksJ2_clear_0 1 rfl rfl)
theorem dJ2_clear_2 : decode cJ2_clear 2 = .ok (.getfield 63, 3) := dk_180 0 63 (dk_at dksJ2_clear_0 2 rfl rfl)
theorem dJ2_clear_5 : decode cJ2_clear 5 = .ok (.iconst 1, 1) := dk_4 (dk_at dksJ2_clear_0 5 rfl rfl)
theorem dJ2_clear_6 : decode cJ2_clear 6 = .ok (.iadd, 1) := dk_96 (dk_at dksJ2_clear_0 6 rfl rfl)
theorem dJ2_clear_7 : decode cJ2_clear 7 = .ok (.putfield 63, 3) := dk_181 0 63 (dk_at dksJ2_clear_0 7 rfl rfl)
theorem dJ2_clear_10 : decode cJ2_clear 10 = .ok (.aload_n 0, 1) := dk_42 (dk_at dksJ2_clear_0 10 rfl rfl)
theorem dJ2_clear_11 : decode cJ2_clear 11 = .ok (.getfield 9, 3) := dk_180 0 9 (dk_at dksJ2_clear_0 11 rfl rfl)
theorem dJ2_clear_14 : decode cJ2_clear 14 = .ok (.astore_n 1, 1) := dk_76 (dk_at dksJ2_clear_0 14 rfl rfl)
theorem dJ2_clear_15 : decode cJ2_clear 15 = .ok (.aload_n 0, 1) := dk_42 (dk_at dksJ2_clear_0 15 rfl rfl)
theorem dJ2_clear_16 : decode cJ2_clear 16 = .ok (.getfield 48, 3) := dk_180 0 48 (dk_at dksJ2_clear_0 16 rfl rfl)
theorem dJ2_clear_19 : decode cJ2_clear 19 = .ok (.istore_n 2, 1) := dk_61 (dk_at dksJ2_clear_0 19 rfl rfl)
theorem dJ2_clear_20 : decode cJ2_clear 20 = .ok (.aload_n 0, 1) := dk_42 (dk_at dksJ2_clear_0 20 rfl rfl)
theorem dJ2_clear_21 : decode cJ2_clear 21 = .ok (.iconst 0, 1) := dk_3 (dk_at dksJ2_clear_0 21 rfl rfl)
theorem dJ2_clear_22 : decode cJ2_clear 22 = .ok (.dup_x1, 1) := dk_90 (dk_at dksJ2_clear_0 22 rfl rfl)
theorem dJ2_clear_23 : decode cJ2_clear 23 = .ok (.putfield 48, 3) := dk_181 0 48 (dk_at dksJ2_clear_1 0 rfl rfl)
theorem dJ2_clear_26 : decode cJ2_clear 26 = .ok (.istore_n 3, 1) := dk_62 (dk_at dksJ2_clear_1 3 rfl rfl)
theorem dJ2_clear_27 : decode cJ2_clear 27 = .ok (.iload_n 3, 1) := dk_29 (dk_at dksJ2_clear_1 4 rfl rfl)
theorem dJ2_clear_28 : decode cJ2_clear 28 = .ok (.iload_n 2, 1) := dk_28 (dk_at dksJ2_clear_1 5 rfl rfl)
theorem dJ2_clear_29 : decode cJ2_clear 29 = .ok (.if_icmp .ge 13, 3) := dk_162 0 13 (dk_at dksJ2_clear_1 6 rfl rfl)
theorem dJ2_clear_32 : decode cJ2_clear 32 = .ok (.aload_n 1, 1) := dk_43 (dk_at dksJ2_clear_1 9 rfl rfl)
theorem dJ2_clear_33 : decode cJ2_clear 33 = .ok (.iload_n 3, 1) := dk_29 (dk_at dksJ2_clear_1 10 rfl rfl)
theorem dJ2_clear_34 : decode cJ2_clear 34 = .ok (.aconst_null, 1) := dk_1 (dk_at dksJ2_clear_1 11 rfl rfl)
theorem dJ2_clear_35 : decode cJ2_clear 35 = .ok (.aastore, 1) := dk_83 (dk_at dksJ2_clear_1 12 rfl rfl)
theorem dJ2_clear_36 : decode cJ2_clear 36 = .ok (.iinc 3 1, 3) := dk_132 3 1 (dk_at dksJ2_clear_1 13 rfl rfl)
theorem dJ2_clear_39 : decode cJ2_clear 39 = .ok (.goto (-12), 3) := dk_167 255 244 (dk_at dksJ2_clear_1 16 rfl rfl)
theorem dJ2_clear_42 : decode cJ2_clear 42 = .ok (.return_, 1) := dk_177 (dk_at dksJ2_clear_1 19 rfl rfl)
abbrev cJ2_get : ByteArray := prog_43_method_20_code
def yJ2_get : MethodName := ⟨RJ2, "get", "(I)Ljava/lang/Object;"⟩
def dkwJ2_get_0 : List UInt8 := [27, 42, 180, 0, 48, 184, 0, 118, 87, 42, 27, 182, 0, 123, 176]
abbrev dktJ2_get_0 : List UInt8 := dkwJ2_get_0 ++ []
theorem dksJ2_get_0 : cJ2_get.data.toList.drop 0 = dktJ2_get_0 := by decide +kernel
theorem dJ2_get_0 : decode cJ2_get 0 = .ok (.iload_n 1, 1) := dk_27 (dk_at dksJ2_get_0 0 rfl rfl)
theorem dJ2_get_1 : decode cJ2_get 1 = .ok (.aload_n 0, 1) := dk_42 (dk_at dksJ2_get_0 1 rfl rfl)
theorem dJ2_get_2 : decode cJ2_get 2 = .ok (.getfield 48, 3) := dk_180 0 48 (dk_at dksJ2_get_0 2 rfl rfl)
theorem dJ2_get_5 : decode cJ2_get 5 = .ok (.invokestatic 118, 3) := dk_184 0 118 (dk_at dksJ2_get_0 5 rfl rfl)
theorem dJ2_get_8 : decode cJ2_get 8 = .ok (.pop, 1) := dk_87 (dk_at dksJ2_get_0 8 rfl rfl)
theorem dJ2_get_9 : decode cJ2_get 9 = .ok (.aload_n 0, 1) := dk_42 (dk_at dksJ2_get_0 9 rfl rfl)
theorem dJ2_get_10 : decode cJ2_get 10 = .ok (.iload_n 1, 1) := dk_27 (dk_at dksJ2_get_0 10 rfl rfl)
theorem dJ2_get_11 : decode cJ2_get 11 = .ok (.invokevirtual 123, 3) := dk_182 0 123 (dk_at dksJ2_get_0 11 rfl rfl)
theorem dJ2_get_14 : decode cJ2_get 14 = .ok (.areturn, 1) := dk_176 (dk_at dksJ2_get_0 14 rfl rfl)
abbrev cJ2_elementData : ByteArray := prog_43_method_18_code
def yJ2_elementData : MethodName := ⟨RJ2, "elementData", "(I)Ljava/lang/Object;"⟩
def dkwJ2_elementData_0 : List UInt8 := [42, 180, 0, 9, 27, 50, 176]
abbrev dktJ2_elementData_0 : List UInt8 := dkwJ2_elementData_0 ++ []
theorem dksJ2_elementData_0 : cJ2_elementData.data.toList.drop 0 = dktJ2_elementData_0 := by decide +kernel
theorem dJ2_elementData_0 : decode cJ2_elementData 0 = .ok (.aload_n 0, 1) := dk_42 (dk_at dksJ2_elementData_0 0 rfl rfl)
theorem dJ2_elementData_1 : decode cJ2_elementData 1 = .ok (.getfield 9, 3) := dk_180 0 9 (dk_at dksJ2_elementData_0 1 rfl rfl)
theorem dJ2_elementData_4 : decode cJ2_elementData 4 = .ok (.iload_n 1, 1) := dk_27 (dk_at dksJ2_elementData_0 4 rfl rfl)
theorem dJ2_elementData_5 : decode cJ2_elementData 5 = .ok (.aaload, 1) := dk_50 (dk_at dksJ2_elementData_0 5 rfl rfl)
theorem dJ2_elementData_6 : decode cJ2_elementData 6 = .ok (.areturn, 1) := dk_176 (dk_at dksJ2_elementData_0 6 rfl rfl)
abbrev cJ2_add : ByteArray := prog_43_method_26_code
def yJ2_add : MethodName := ⟨RJ2, "add", "(ILjava/lang/Object;)V"⟩
def dkwJ2_add_2 : List UInt8 := [29, 27, 100, 184, 0, 112, 25, 4, 27, 44, 83, 42, 29, 4, 96, 181, 0, 48, 177]
abbrev dktJ2_add_2 : List UInt8 := dkwJ2_add_2 ++ []
def dkwJ2_add_1 : List UInt8 := [180, 0, 9, 89, 58, 4, 190, 160, 0, 9, 42, 182, 0, 129, 58, 4, 25, 4, 27, 25, 4, 27, 4, 96]
abbrev dktJ2_add_1 : List UInt8 := dkwJ2_add_1 ++ dktJ2_add_2
def dkwJ2_add_0 : List UInt8 := [42, 27, 182, 0, 135, 42, 89, 180, 0, 63, 4, 96, 181, 0, 63, 42, 180, 0, 48, 89, 62, 42]
abbrev dktJ2_add_0 : List UInt8 := dkwJ2_add_0 ++ dktJ2_add_1
theorem dksJ2_add_0 : cJ2_add.data.toList.drop 0 = dktJ2_add_0 := by decide +kernel
theorem dksJ2_add_1 : cJ2_add.data.toList.drop 22 = dktJ2_add_1 := dk_seg dksJ2_add_0 22 rfl rfl
theorem dksJ2_add_2 : cJ2_add.data.toList.drop 46 = dktJ2_add_2 := dk_seg dksJ2_add_1 24 rfl rfl
theorem dJ2_add_0 : decode cJ2_add 0 = .ok (.aload_n 0, 1) := dk_42 (dk_at dksJ2_add_0 0 rfl rfl)
theorem dJ2_add_1 : decode cJ2_add 1 = .ok (.iload_n 1, 1) := dk_27 (dk_at dksJ2_add_0 1 rfl rfl)
theorem dJ2_add_2 : decode cJ2_add 2 = .ok (.invokevirtual 135, 3) := dk_182 0 135 (dk_at dksJ2_add_0 2 rfl rfl)
theorem dJ2_add_5 : decode cJ2_add 5 = .ok (.aload_n 0, 1) := dk_42 (dk_at dksJ2_add_0 5 rfl rfl)
theorem dJ2_add_6 : decode cJ2_add 6 = .ok (.dup, 1) := dk_89 (dk_at dksJ2_add_0 6 rfl rfl)
theorem dJ2_add_7 : decode cJ2_add 7 = .ok (.getfield 63, 3) := dk_180 0 63 (dk_at dksJ2_add_0 7 rfl rfl)
theorem dJ2_add_10 : decode cJ2_add 10 = .ok (.iconst 1, 1) := dk_4 (dk_at dksJ2_add_0 10 rfl rfl)
theorem dJ2_add_11 : decode cJ2_add 11 = .ok (.iadd, 1) := dk_96 (dk_at dksJ2_add_0 11 rfl rfl)
theorem dJ2_add_12 : decode cJ2_add 12 = .ok (.putfield 63, 3) := dk_181 0 63 (dk_at dksJ2_add_0 12 rfl rfl)
theorem dJ2_add_15 : decode cJ2_add 15 = .ok (.aload_n 0, 1) := dk_42 (dk_at dksJ2_add_0 15 rfl rfl)
theorem dJ2_add_16 : decode cJ2_add 16 = .ok (.getfield 48, 3) := dk_180 0 48 (dk_at dksJ2_add_0 16 rfl rfl)
theorem dJ2_add_19 : decode cJ2_add 19 = .ok (.dup, 1) := dk_89 (dk_at dksJ2_add_0 19 rfl rfl)
theorem dJ2_add_20 : decode cJ2_add 20 = .ok (.istore_n 3, 1) := dk_62 (dk_at dksJ2_add_0 20 rfl rfl)
theorem dJ2_add_21 : decode cJ2_add 21 = .ok (.aload_n 0, 1) := dk_42 (dk_at dksJ2_add_0 21 rfl rfl)
theorem dJ2_add_22 : decode cJ2_add 22 = .ok (.getfield 9, 3) := dk_180 0 9 (dk_at dksJ2_add_1 0 rfl rfl)
theorem dJ2_add_25 : decode cJ2_add 25 = .ok (.dup, 1) := dk_89 (dk_at dksJ2_add_1 3 rfl rfl)
theorem dJ2_add_26 : decode cJ2_add 26 = .ok (.astore 4, 2) := dk_58 4 (dk_at dksJ2_add_1 4 rfl rfl)
theorem dJ2_add_28 : decode cJ2_add 28 = .ok (.arraylength, 1) := dk_190 (dk_at dksJ2_add_1 6 rfl rfl)
theorem dJ2_add_29 : decode cJ2_add 29 = .ok (.if_icmp .ne 9, 3) := dk_160 0 9 (dk_at dksJ2_add_1 7 rfl rfl)
theorem dJ2_add_32 : decode cJ2_add 32 = .ok (.aload_n 0, 1) := dk_42 (dk_at dksJ2_add_1 10 rfl rfl)
theorem dJ2_add_33 : decode cJ2_add 33 = .ok (.invokevirtual 129, 3) := dk_182 0 129 (dk_at dksJ2_add_1 11 rfl rfl)
theorem dJ2_add_36 : decode cJ2_add 36 = .ok (.astore 4, 2) := dk_58 4 (dk_at dksJ2_add_1 14 rfl rfl)
theorem dJ2_add_38 : decode cJ2_add 38 = .ok (.aload 4, 2) := dk_25 4 (dk_at dksJ2_add_1 16 rfl rfl)
theorem dJ2_add_40 : decode cJ2_add 40 = .ok (.iload_n 1, 1) := dk_27 (dk_at dksJ2_add_1 18 rfl rfl)
theorem dJ2_add_41 : decode cJ2_add 41 = .ok (.aload 4, 2) := dk_25 4 (dk_at dksJ2_add_1 19 rfl rfl)
theorem dJ2_add_43 : decode cJ2_add 43 = .ok (.iload_n 1, 1) := dk_27 (dk_at dksJ2_add_1 21 rfl rfl)
theorem dJ2_add_44 : decode cJ2_add 44 = .ok (.iconst 1, 1) := dk_4 (dk_at dksJ2_add_1 22 rfl rfl)
theorem dJ2_add_45 : decode cJ2_add 45 = .ok (.iadd, 1) := dk_96 (dk_at dksJ2_add_1 23 rfl rfl)
theorem dJ2_add_46 : decode cJ2_add 46 = .ok (.iload_n 3, 1) := dk_29 (dk_at dksJ2_add_2 0 rfl rfl)
theorem dJ2_add_47 : decode cJ2_add 47 = .ok (.iload_n 1, 1) := dk_27 (dk_at dksJ2_add_2 1 rfl rfl)
theorem dJ2_add_48 : decode cJ2_add 48 = .ok (.isub, 1) := dk_100 (dk_at dksJ2_add_2 2 rfl rfl)
theorem dJ2_add_49 : decode cJ2_add 49 = .ok (.invokestatic 112, 3) := dk_184 0 112 (dk_at dksJ2_add_2 3 rfl rfl)
theorem dJ2_add_52 : decode cJ2_add 52 = .ok (.aload 4, 2) := dk_25 4 (dk_at dksJ2_add_2 6 rfl rfl)
theorem dJ2_add_54 : decode cJ2_add 54 = .ok (.iload_n 1, 1) := dk_27 (dk_at dksJ2_add_2 8 rfl rfl)
theorem dJ2_add_55 : decode cJ2_add 55 = .ok (.aload_n 2, 1) := dk_44 (dk_at dksJ2_add_2 9 rfl rfl)
theorem dJ2_add_56 : decode cJ2_add 56 = .ok (.aastore, 1) := dk_83 (dk_at dksJ2_add_2 10 rfl rfl)
theorem dJ2_add_57 : decode cJ2_add 57 = .ok (.aload_n 0, 1) := dk_42 (dk_at dksJ2_add_2 11 rfl rfl)
theorem dJ2_add_58 : decode cJ2_add 58 = .ok (.iload_n 3, 1) := dk_29 (dk_at dksJ2_add_2 12 rfl rfl)
theorem dJ2_add_59 : decode cJ2_add 59 = .ok (.iconst 1, 1) := dk_4 (dk_at dksJ2_add_2 13 rfl rfl)
theorem dJ2_add_60 : decode cJ2_add 60 = .ok (.iadd, 1) := dk_96 (dk_at dksJ2_add_2 14 rfl rfl)
theorem dJ2_add_61 : decode cJ2_add 61 = .ok (.putfield 48, 3) := dk_181 0 48 (dk_at dksJ2_add_2 15 rfl rfl)
theorem dJ2_add_64 : decode cJ2_add 64 = .ok (.return_, 1) := dk_177 (dk_at dksJ2_add_2 18 rfl rfl)
abbrev cJ2_rangeCheckForAdd : ByteArray := prog_43_method_45_code
def yJ2_rangeCheckForAdd : MethodName := ⟨RJ2, "rangeCheckForAdd", "(I)V"⟩
def dkwJ2_rangeCheckForAdd_1 : List UInt8 := [191, 177]
abbrev dktJ2_rangeCheckForAdd_1 : List UInt8 := dkwJ2_rangeCheckForAdd_1 ++ []
def dkwJ2_rangeCheckForAdd_0 : List UInt8 := [27, 42, 180, 0, 48, 163, 0, 7, 27, 156, 0, 16, 187, 0, 187, 89, 42, 27, 182, 0, 198, 183, 0, 193]
abbrev dktJ2_rangeCheckForAdd_0 : List UInt8 := dkwJ2_rangeCheckForAdd_0 ++ dktJ2_rangeCheckForAdd_1
theorem dksJ2_rangeCheckForAdd_0 : cJ2_rangeCheckForAdd.data.toList.drop 0 = dktJ2_rangeCheckForAdd_0 := by decide +kernel
theorem dksJ2_rangeCheckForAdd_1 : cJ2_rangeCheckForAdd.data.toList.drop 24 = dktJ2_rangeCheckForAdd_1 := dk_seg dksJ2_rangeCheckForAdd_0 24 rfl rfl
theorem dJ2_rangeCheckForAdd_0 : decode cJ2_rangeCheckForAdd 0 = .ok (.iload_n 1, 1) := dk_27 (dk_at dksJ2_rangeCheckForAdd_0 0 rfl rfl)
theorem dJ2_rangeCheckForAdd_1 : decode cJ2_rangeCheckForAdd 1 = .ok (.aload_n 0, 1) := dk_42 (dk_at dksJ2_rangeCheckForAdd_0 1 rfl rfl)
theorem dJ2_rangeCheckForAdd_2 : decode cJ2_rangeCheckForAdd 2 = .ok (.getfield 48, 3) := dk_180 0 48 (dk_at dksJ2_rangeCheckForAdd_0 2 rfl rfl)
theorem dJ2_rangeCheckForAdd_5 : decode cJ2_rangeCheckForAdd 5 = .ok (.if_icmp .gt 7, 3) := dk_163 0 7 (dk_at dksJ2_rangeCheckForAdd_0 5 rfl rfl)
theorem dJ2_rangeCheckForAdd_8 : decode cJ2_rangeCheckForAdd 8 = .ok (.iload_n 1, 1) := dk_27 (dk_at dksJ2_rangeCheckForAdd_0 8 rfl rfl)
theorem dJ2_rangeCheckForAdd_9 : decode cJ2_rangeCheckForAdd 9 = .ok (.ifCond .ge 16, 3) := dk_156 0 16 (dk_at dksJ2_rangeCheckForAdd_0 9 rfl rfl)
theorem dJ2_rangeCheckForAdd_12 : decode cJ2_rangeCheckForAdd 12 = .ok (.new 187, 3) := dk_187 0 187 (dk_at dksJ2_rangeCheckForAdd_0 12 rfl rfl)
theorem dJ2_rangeCheckForAdd_15 : decode cJ2_rangeCheckForAdd 15 = .ok (.dup, 1) := dk_89 (dk_at dksJ2_rangeCheckForAdd_0 15 rfl rfl)
theorem dJ2_rangeCheckForAdd_16 : decode cJ2_rangeCheckForAdd 16 = .ok (.aload_n 0, 1) := dk_42 (dk_at dksJ2_rangeCheckForAdd_0 16 rfl rfl)
theorem dJ2_rangeCheckForAdd_17 : decode cJ2_rangeCheckForAdd 17 = .ok (.iload_n 1, 1) := dk_27 (dk_at dksJ2_rangeCheckForAdd_0 17 rfl rfl)
theorem dJ2_rangeCheckForAdd_18 : decode cJ2_rangeCheckForAdd 18 = .ok (.invokevirtual 198, 3) := dk_182 0 198 (dk_at dksJ2_rangeCheckForAdd_0 18 rfl rfl)
theorem dJ2_rangeCheckForAdd_21 : decode cJ2_rangeCheckForAdd 21 = .ok (.invokespecial 193, 3) := dk_183 0 193 (dk_at dksJ2_rangeCheckForAdd_0 21 rfl rfl)
theorem dJ2_rangeCheckForAdd_24 : decode cJ2_rangeCheckForAdd 24 = .ok (.athrow, 1) := dk_191 (dk_at dksJ2_rangeCheckForAdd_1 0 rfl rfl)
theorem dJ2_rangeCheckForAdd_25 : decode cJ2_rangeCheckForAdd 25 = .ok (.return_, 1) := dk_177 (dk_at dksJ2_rangeCheckForAdd_1 1 rfl rfl)
abbrev cJ2_outOfBoundsMsg : ByteArray := prog_43_method_46_code
def yJ2_outOfBoundsMsg : MethodName := ⟨RJ2, "outOfBoundsMsg", "(I)Ljava/lang/String;"⟩
def dkwJ2_outOfBoundsMsg_1 : List UInt8 := [180, 0, 48, 182, 0, 29, 182, 0, 32, 176]
abbrev dktJ2_outOfBoundsMsg_1 : List UInt8 := dkwJ2_outOfBoundsMsg_1 ++ []
def dkwJ2_outOfBoundsMsg_0 : List UInt8 := [187, 0, 20, 89, 183, 0, 22, 18, 201, 182, 0, 25, 27, 182, 0, 29, 18, 203, 182, 0, 25, 42]
abbrev dktJ2_outOfBoundsMsg_0 : List UInt8 := dkwJ2_outOfBoundsMsg_0 ++ dktJ2_outOfBoundsMsg_1
theorem dksJ2_outOfBoundsMsg_0 : cJ2_outOfBoundsMsg.data.toList.drop 0 = dktJ2_outOfBoundsMsg_0 := by decide +kernel
theorem dksJ2_outOfBoundsMsg_1 : cJ2_outOfBoundsMsg.data.toList.drop 22 = dktJ2_outOfBoundsMsg_1 := dk_seg dksJ2_outOfBoundsMsg_0 22 rfl rfl
theorem dJ2_outOfBoundsMsg_0 : decode cJ2_outOfBoundsMsg 0 = .ok (.new 20, 3) := dk_187 0 20 (dk_at dksJ2_outOfBoundsMsg_0 0 rfl rfl)
theorem dJ2_outOfBoundsMsg_3 : decode cJ2_outOfBoundsMsg 3 = .ok (.dup, 1) := dk_89 (dk_at dksJ2_outOfBoundsMsg_0 3 rfl rfl)
theorem dJ2_outOfBoundsMsg_4 : decode cJ2_outOfBoundsMsg 4 = .ok (.invokespecial 22, 3) := dk_183 0 22 (dk_at dksJ2_outOfBoundsMsg_0 4 rfl rfl)
theorem dJ2_outOfBoundsMsg_7 : decode cJ2_outOfBoundsMsg 7 = .ok (.ldc 201, 2) := dk_18 201 (dk_at dksJ2_outOfBoundsMsg_0 7 rfl rfl)
theorem dJ2_outOfBoundsMsg_9 : decode cJ2_outOfBoundsMsg 9 = .ok (.invokevirtual 25, 3) := dk_182 0 25 (dk_at dksJ2_outOfBoundsMsg_0 9 rfl rfl)
theorem dJ2_outOfBoundsMsg_12 : decode cJ2_outOfBoundsMsg 12 = .ok (.iload_n 1, 1) := dk_27 (dk_at dksJ2_outOfBoundsMsg_0 12 rfl rfl)
theorem dJ2_outOfBoundsMsg_13 : decode cJ2_outOfBoundsMsg 13 = .ok (.invokevirtual 29, 3) := dk_182 0 29 (dk_at dksJ2_outOfBoundsMsg_0 13 rfl rfl)
theorem dJ2_outOfBoundsMsg_16 : decode cJ2_outOfBoundsMsg 16 = .ok (.ldc 203, 2) := dk_18 203 (dk_at dksJ2_outOfBoundsMsg_0 16 rfl rfl)
theorem dJ2_outOfBoundsMsg_18 : decode cJ2_outOfBoundsMsg 18 = .ok (.invokevirtual 25, 3) := dk_182 0 25 (dk_at dksJ2_outOfBoundsMsg_0 18 rfl rfl)
theorem dJ2_outOfBoundsMsg_21 : decode cJ2_outOfBoundsMsg 21 = .ok (.aload_n 0, 1) := dk_42 (dk_at dksJ2_outOfBoundsMsg_0 21 rfl rfl)
theorem dJ2_outOfBoundsMsg_22 : decode cJ2_outOfBoundsMsg 22 = .ok (.getfield 48, 3) := dk_180 0 48 (dk_at dksJ2_outOfBoundsMsg_1 0 rfl rfl)
theorem dJ2_outOfBoundsMsg_25 : decode cJ2_outOfBoundsMsg 25 = .ok (.invokevirtual 29, 3) := dk_182 0 29 (dk_at dksJ2_outOfBoundsMsg_1 3 rfl rfl)
theorem dJ2_outOfBoundsMsg_28 : decode cJ2_outOfBoundsMsg 28 = .ok (.invokevirtual 32, 3) := dk_182 0 32 (dk_at dksJ2_outOfBoundsMsg_1 6 rfl rfl)
theorem dJ2_outOfBoundsMsg_31 : decode cJ2_outOfBoundsMsg 31 = .ok (.areturn, 1) := dk_176 (dk_at dksJ2_outOfBoundsMsg_1 9 rfl rfl)
abbrev cJ2_grow : ByteArray := prog_43_method_7_code
def yJ2_grow : MethodName := ⟨RJ2, "grow", "()[Ljava/lang/Object;"⟩
def dkwJ2_grow_0 : List UInt8 := [42, 42, 180, 0, 48, 4, 96, 182, 0, 69, 176]
abbrev dktJ2_grow_0 : List UInt8 := dkwJ2_grow_0 ++ []
theorem dksJ2_grow_0 : cJ2_grow.data.toList.drop 0 = dktJ2_grow_0 := by decide +kernel
theorem dJ2_grow_0 : decode cJ2_grow 0 = .ok (.aload_n 0, 1) := dk_42 (dk_at dksJ2_grow_0 0 rfl rfl)
theorem dJ2_grow_1 : decode cJ2_grow 1 = .ok (.aload_n 0, 1) := dk_42 (dk_at dksJ2_grow_0 1 rfl rfl)
theorem dJ2_grow_2 : decode cJ2_grow 2 = .ok (.getfield 48, 3) := dk_180 0 48 (dk_at dksJ2_grow_0 2 rfl rfl)
theorem dJ2_grow_5 : decode cJ2_grow 5 = .ok (.iconst 1, 1) := dk_4 (dk_at dksJ2_grow_0 5 rfl rfl)
theorem dJ2_grow_6 : decode cJ2_grow 6 = .ok (.iadd, 1) := dk_96 (dk_at dksJ2_grow_0 6 rfl rfl)
theorem dJ2_grow_7 : decode cJ2_grow 7 = .ok (.invokevirtual 69, 3) := dk_182 0 69 (dk_at dksJ2_grow_0 7 rfl rfl)
theorem dJ2_grow_10 : decode cJ2_grow 10 = .ok (.areturn, 1) := dk_176 (dk_at dksJ2_grow_0 10 rfl rfl)
abbrev cJ2_grow_2 : ByteArray := prog_43_method_6_code
def yJ2_grow_2 : MethodName := ⟨RJ2, "grow", "(I)[Ljava/lang/Object;"⟩
def dkwJ2_grow_2_2 : List UInt8 := [27, 184, 0, 79, 189, 0, 7, 90, 181, 0, 9, 176]
abbrev dktJ2_grow_2_2 : List UInt8 := dkwJ2_grow_2_2 ++ []
def dkwJ2_grow_2_1 : List UInt8 := [28, 4, 122, 184, 0, 73, 62, 42, 42, 180, 0, 9, 29, 184, 0, 66, 90, 181, 0, 9, 176, 42, 16, 10]
abbrev dktJ2_grow_2_1 : List UInt8 := dkwJ2_grow_2_1 ++ dktJ2_grow_2_2
def dkwJ2_grow_2_0 : List UInt8 := [42, 180, 0, 9, 190, 61, 28, 157, 0, 13, 42, 180, 0, 9, 178, 0, 39, 165, 0, 28, 28, 27, 28, 100]
abbrev dktJ2_grow_2_0 : List UInt8 := dkwJ2_grow_2_0 ++ dktJ2_grow_2_1
theorem dksJ2_grow_2_0 : cJ2_grow_2.data.toList.drop 0 = dktJ2_grow_2_0 := by decide +kernel
theorem dksJ2_grow_2_1 : cJ2_grow_2.data.toList.drop 24 = dktJ2_grow_2_1 := dk_seg dksJ2_grow_2_0 24 rfl rfl
theorem dksJ2_grow_2_2 : cJ2_grow_2.data.toList.drop 48 = dktJ2_grow_2_2 := dk_seg dksJ2_grow_2_1 24 rfl rfl
theorem dJ2_grow_2_0 : decode cJ2_grow_2 0 = .ok (.aload_n 0, 1) := dk_42 (dk_at dksJ2_grow_2_0 0 rfl rfl)
theorem dJ2_grow_2_1 : decode cJ2_grow_2 1 = .ok (.getfield 9, 3) := dk_180 0 9 (dk_at dksJ2_grow_2_0 1 rfl rfl)
theorem dJ2_grow_2_4 : decode cJ2_grow_2 4 = .ok (.arraylength, 1) := dk_190 (dk_at dksJ2_grow_2_0 4 rfl rfl)
theorem dJ2_grow_2_5 : decode cJ2_grow_2 5 = .ok (.istore_n 2, 1) := dk_61 (dk_at dksJ2_grow_2_0 5 rfl rfl)
theorem dJ2_grow_2_6 : decode cJ2_grow_2 6 = .ok (.iload_n 2, 1) := dk_28 (dk_at dksJ2_grow_2_0 6 rfl rfl)
theorem dJ2_grow_2_7 : decode cJ2_grow_2 7 = .ok (.ifCond .gt 13, 3) := dk_157 0 13 (dk_at dksJ2_grow_2_0 7 rfl rfl)
theorem dJ2_grow_2_10 : decode cJ2_grow_2 10 = .ok (.aload_n 0, 1) := dk_42 (dk_at dksJ2_grow_2_0 10 rfl rfl)
theorem dJ2_grow_2_11 : decode cJ2_grow_2 11 = .ok (.getfield 9, 3) := dk_180 0 9 (dk_at dksJ2_grow_2_0 11 rfl rfl)
theorem dJ2_grow_2_14 : decode cJ2_grow_2 14 = .ok (.getstatic 39, 3) := dk_178 0 39 (dk_at dksJ2_grow_2_0 14 rfl rfl)
theorem dJ2_grow_2_17 : decode cJ2_grow_2 17 = .ok (.if_acmp .eq 28, 3) := dk_165 0 28 (dk_at dksJ2_grow_2_0 17 rfl rfl)
theorem dJ2_grow_2_20 : decode cJ2_grow_2 20 = .ok (.iload_n 2, 1) := dk_28 (dk_at dksJ2_grow_2_0 20 rfl rfl)
theorem dJ2_grow_2_21 : decode cJ2_grow_2 21 = .ok (.iload_n 1, 1) := dk_27 (dk_at dksJ2_grow_2_0 21 rfl rfl)
theorem dJ2_grow_2_22 : decode cJ2_grow_2 22 = .ok (.iload_n 2, 1) := dk_28 (dk_at dksJ2_grow_2_0 22 rfl rfl)
theorem dJ2_grow_2_23 : decode cJ2_grow_2 23 = .ok (.isub, 1) := dk_100 (dk_at dksJ2_grow_2_0 23 rfl rfl)
theorem dJ2_grow_2_24 : decode cJ2_grow_2 24 = .ok (.iload_n 2, 1) := dk_28 (dk_at dksJ2_grow_2_1 0 rfl rfl)
theorem dJ2_grow_2_25 : decode cJ2_grow_2 25 = .ok (.iconst 1, 1) := dk_4 (dk_at dksJ2_grow_2_1 1 rfl rfl)
theorem dJ2_grow_2_26 : decode cJ2_grow_2 26 = .ok (.ishr, 1) := dk_122 (dk_at dksJ2_grow_2_1 2 rfl rfl)
theorem dJ2_grow_2_27 : decode cJ2_grow_2 27 = .ok (.invokestatic 73, 3) := dk_184 0 73 (dk_at dksJ2_grow_2_1 3 rfl rfl)
theorem dJ2_grow_2_30 : decode cJ2_grow_2 30 = .ok (.istore_n 3, 1) := dk_62 (dk_at dksJ2_grow_2_1 6 rfl rfl)
theorem dJ2_grow_2_31 : decode cJ2_grow_2 31 = .ok (.aload_n 0, 1) := dk_42 (dk_at dksJ2_grow_2_1 7 rfl rfl)
theorem dJ2_grow_2_32 : decode cJ2_grow_2 32 = .ok (.aload_n 0, 1) := dk_42 (dk_at dksJ2_grow_2_1 8 rfl rfl)
theorem dJ2_grow_2_33 : decode cJ2_grow_2 33 = .ok (.getfield 9, 3) := dk_180 0 9 (dk_at dksJ2_grow_2_1 9 rfl rfl)
theorem dJ2_grow_2_36 : decode cJ2_grow_2 36 = .ok (.iload_n 3, 1) := dk_29 (dk_at dksJ2_grow_2_1 12 rfl rfl)
theorem dJ2_grow_2_37 : decode cJ2_grow_2 37 = .ok (.invokestatic 66, 3) := dk_184 0 66 (dk_at dksJ2_grow_2_1 13 rfl rfl)
theorem dJ2_grow_2_40 : decode cJ2_grow_2 40 = .ok (.dup_x1, 1) := dk_90 (dk_at dksJ2_grow_2_1 16 rfl rfl)
theorem dJ2_grow_2_41 : decode cJ2_grow_2 41 = .ok (.putfield 9, 3) := dk_181 0 9 (dk_at dksJ2_grow_2_1 17 rfl rfl)
theorem dJ2_grow_2_44 : decode cJ2_grow_2 44 = .ok (.areturn, 1) := dk_176 (dk_at dksJ2_grow_2_1 20 rfl rfl)
theorem dJ2_grow_2_45 : decode cJ2_grow_2 45 = .ok (.aload_n 0, 1) := dk_42 (dk_at dksJ2_grow_2_1 21 rfl rfl)
theorem dJ2_grow_2_46 : decode cJ2_grow_2 46 = .ok (.bipush 10, 2) := dk_16 10 (dk_at dksJ2_grow_2_1 22 rfl rfl)
theorem dJ2_grow_2_48 : decode cJ2_grow_2 48 = .ok (.iload_n 1, 1) := dk_27 (dk_at dksJ2_grow_2_2 0 rfl rfl)
theorem dJ2_grow_2_49 : decode cJ2_grow_2 49 = .ok (.invokestatic 79, 3) := dk_184 0 79 (dk_at dksJ2_grow_2_2 1 rfl rfl)
theorem dJ2_grow_2_52 : decode cJ2_grow_2 52 = .ok (.anewarray 7, 3) := dk_189 0 7 (dk_at dksJ2_grow_2_2 4 rfl rfl)
theorem dJ2_grow_2_55 : decode cJ2_grow_2 55 = .ok (.dup_x1, 1) := dk_90 (dk_at dksJ2_grow_2_2 7 rfl rfl)
theorem dJ2_grow_2_56 : decode cJ2_grow_2 56 = .ok (.putfield 9, 3) := dk_181 0 9 (dk_at dksJ2_grow_2_2 8 rfl rfl)
theorem dJ2_grow_2_59 : decode cJ2_grow_2 59 = .ok (.areturn, 1) := dk_176 (dk_at dksJ2_grow_2_2 11 rfl rfl)
abbrev cJ2_add_2 : ByteArray := prog_43_method_25_code
def yJ2_add_2 : MethodName := ⟨RJ2, "add", "(Ljava/lang/Object;)Z"⟩
def dkwJ2_add_2_1 : List UInt8 := [172]
abbrev dktJ2_add_2_1 : List UInt8 := dkwJ2_add_2_1 ++ []
def dkwJ2_add_2_0 : List UInt8 := [42, 89, 180, 0, 63, 4, 96, 181, 0, 63, 42, 43, 42, 180, 0, 9, 42, 180, 0, 48, 182, 0, 131, 4]
abbrev dktJ2_add_2_0 : List UInt8 := dkwJ2_add_2_0 ++ dktJ2_add_2_1
theorem dksJ2_add_2_0 : cJ2_add_2.data.toList.drop 0 = dktJ2_add_2_0 := by decide +kernel
theorem dksJ2_add_2_1 : cJ2_add_2.data.toList.drop 24 = dktJ2_add_2_1 := dk_seg dksJ2_add_2_0 24 rfl rfl
theorem dJ2_add_2_0 : decode cJ2_add_2 0 = .ok (.aload_n 0, 1) := dk_42 (dk_at dksJ2_add_2_0 0 rfl rfl)
theorem dJ2_add_2_1 : decode cJ2_add_2 1 = .ok (.dup, 1) := dk_89 (dk_at dksJ2_add_2_0 1 rfl rfl)
theorem dJ2_add_2_2 : decode cJ2_add_2 2 = .ok (.getfield 63, 3) := dk_180 0 63 (dk_at dksJ2_add_2_0 2 rfl rfl)
theorem dJ2_add_2_5 : decode cJ2_add_2 5 = .ok (.iconst 1, 1) := dk_4 (dk_at dksJ2_add_2_0 5 rfl rfl)
theorem dJ2_add_2_6 : decode cJ2_add_2 6 = .ok (.iadd, 1) := dk_96 (dk_at dksJ2_add_2_0 6 rfl rfl)
theorem dJ2_add_2_7 : decode cJ2_add_2 7 = .ok (.putfield 63, 3) := dk_181 0 63 (dk_at dksJ2_add_2_0 7 rfl rfl)
theorem dJ2_add_2_10 : decode cJ2_add_2 10 = .ok (.aload_n 0, 1) := dk_42 (dk_at dksJ2_add_2_0 10 rfl rfl)
theorem dJ2_add_2_11 : decode cJ2_add_2 11 = .ok (.aload_n 1, 1) := dk_43 (dk_at dksJ2_add_2_0 11 rfl rfl)
theorem dJ2_add_2_12 : decode cJ2_add_2 12 = .ok (.aload_n 0, 1) := dk_42 (dk_at dksJ2_add_2_0 12 rfl rfl)
theorem dJ2_add_2_13 : decode cJ2_add_2 13 = .ok (.getfield 9, 3) := dk_180 0 9 (dk_at dksJ2_add_2_0 13 rfl rfl)
theorem dJ2_add_2_16 : decode cJ2_add_2 16 = .ok (.aload_n 0, 1) := dk_42 (dk_at dksJ2_add_2_0 16 rfl rfl)
theorem dJ2_add_2_17 : decode cJ2_add_2 17 = .ok (.getfield 48, 3) := dk_180 0 48 (dk_at dksJ2_add_2_0 17 rfl rfl)
theorem dJ2_add_2_20 : decode cJ2_add_2 20 = .ok (.invokevirtual 131, 3) := dk_182 0 131 (dk_at dksJ2_add_2_0 20 rfl rfl)
theorem dJ2_add_2_23 : decode cJ2_add_2 23 = .ok (.iconst 1, 1) := dk_4 (dk_at dksJ2_add_2_0 23 rfl rfl)
theorem dJ2_add_2_24 : decode cJ2_add_2 24 = .ok (.ireturn, 1) := dk_172 (dk_at dksJ2_add_2_1 0 rfl rfl)
abbrev cJ2_add_3 : ByteArray := prog_43_method_24_code
def yJ2_add_3 : MethodName := ⟨RJ2, "add", "(Ljava/lang/Object;[Ljava/lang/Object;I)V"⟩
def dkwJ2_add_3_0 : List UInt8 := [29, 44, 190, 160, 0, 8, 42, 182, 0, 129, 77, 44, 29, 43, 83, 42, 29, 4, 96, 181, 0, 48, 177]
abbrev dktJ2_add_3_0 : List UInt8 := dkwJ2_add_3_0 ++ []
theorem dksJ2_add_3_0 : cJ2_add_3.data.toList.drop 0 = dktJ2_add_3_0 := by decide +kernel
theorem dJ2_add_3_0 : decode cJ2_add_3 0 = .ok (.iload_n 3, 1) := dk_29 (dk_at dksJ2_add_3_0 0 rfl rfl)
theorem dJ2_add_3_1 : decode cJ2_add_3 1 = .ok (.aload_n 2, 1) := dk_44 (dk_at dksJ2_add_3_0 1 rfl rfl)
theorem dJ2_add_3_2 : decode cJ2_add_3 2 = .ok (.arraylength, 1) := dk_190 (dk_at dksJ2_add_3_0 2 rfl rfl)
theorem dJ2_add_3_3 : decode cJ2_add_3 3 = .ok (.if_icmp .ne 8, 3) := dk_160 0 8 (dk_at dksJ2_add_3_0 3 rfl rfl)
theorem dJ2_add_3_6 : decode cJ2_add_3 6 = .ok (.aload_n 0, 1) := dk_42 (dk_at dksJ2_add_3_0 6 rfl rfl)
theorem dJ2_add_3_7 : decode cJ2_add_3 7 = .ok (.invokevirtual 129, 3) := dk_182 0 129 (dk_at dksJ2_add_3_0 7 rfl rfl)
theorem dJ2_add_3_10 : decode cJ2_add_3 10 = .ok (.astore_n 2, 1) := dk_77 (dk_at dksJ2_add_3_0 10 rfl rfl)
theorem dJ2_add_3_11 : decode cJ2_add_3 11 = .ok (.aload_n 2, 1) := dk_44 (dk_at dksJ2_add_3_0 11 rfl rfl)
theorem dJ2_add_3_12 : decode cJ2_add_3 12 = .ok (.iload_n 3, 1) := dk_29 (dk_at dksJ2_add_3_0 12 rfl rfl)
theorem dJ2_add_3_13 : decode cJ2_add_3 13 = .ok (.aload_n 1, 1) := dk_43 (dk_at dksJ2_add_3_0 13 rfl rfl)
theorem dJ2_add_3_14 : decode cJ2_add_3 14 = .ok (.aastore, 1) := dk_83 (dk_at dksJ2_add_3_0 14 rfl rfl)
theorem dJ2_add_3_15 : decode cJ2_add_3 15 = .ok (.aload_n 0, 1) := dk_42 (dk_at dksJ2_add_3_0 15 rfl rfl)
theorem dJ2_add_3_16 : decode cJ2_add_3 16 = .ok (.iload_n 3, 1) := dk_29 (dk_at dksJ2_add_3_0 16 rfl rfl)
theorem dJ2_add_3_17 : decode cJ2_add_3 17 = .ok (.iconst 1, 1) := dk_4 (dk_at dksJ2_add_3_0 17 rfl rfl)
theorem dJ2_add_3_18 : decode cJ2_add_3 18 = .ok (.iadd, 1) := dk_96 (dk_at dksJ2_add_3_0 18 rfl rfl)
theorem dJ2_add_3_19 : decode cJ2_add_3 19 = .ok (.putfield 48, 3) := dk_181 0 48 (dk_at dksJ2_add_3_0 19 rfl rfl)
theorem dJ2_add_3_22 : decode cJ2_add_3 22 = .ok (.return_, 1) := dk_177 (dk_at dksJ2_add_3_0 22 rfl rfl)
abbrev cJ2_remove : ByteArray := prog_43_method_29_code
def yJ2_remove : MethodName := ⟨RJ2, "remove", "(I)Ljava/lang/Object;"⟩
def dkwJ2_remove_1 : List UInt8 := [45, 176]
abbrev dktJ2_remove_1 : List UInt8 := dkwJ2_remove_1 ++ []
def dkwJ2_remove_0 : List UInt8 := [27, 42, 180, 0, 48, 184, 0, 118, 87, 42, 180, 0, 9, 77, 44, 27, 50, 78, 42, 44, 27, 182, 0, 144]
abbrev dktJ2_remove_0 : List UInt8 := dkwJ2_remove_0 ++ dktJ2_remove_1
theorem dksJ2_remove_0 : cJ2_remove.data.toList.drop 0 = dktJ2_remove_0 := by decide +kernel
theorem dksJ2_remove_1 : cJ2_remove.data.toList.drop 24 = dktJ2_remove_1 := dk_seg dksJ2_remove_0 24 rfl rfl
theorem dJ2_remove_0 : decode cJ2_remove 0 = .ok (.iload_n 1, 1) := dk_27 (dk_at dksJ2_remove_0 0 rfl rfl)
theorem dJ2_remove_1 : decode cJ2_remove 1 = .ok (.aload_n 0, 1) := dk_42 (dk_at dksJ2_remove_0 1 rfl rfl)
theorem dJ2_remove_2 : decode cJ2_remove 2 = .ok (.getfield 48, 3) := dk_180 0 48 (dk_at dksJ2_remove_0 2 rfl rfl)
theorem dJ2_remove_5 : decode cJ2_remove 5 = .ok (.invokestatic 118, 3) := dk_184 0 118 (dk_at dksJ2_remove_0 5 rfl rfl)
theorem dJ2_remove_8 : decode cJ2_remove 8 = .ok (.pop, 1) := dk_87 (dk_at dksJ2_remove_0 8 rfl rfl)
theorem dJ2_remove_9 : decode cJ2_remove 9 = .ok (.aload_n 0, 1) := dk_42 (dk_at dksJ2_remove_0 9 rfl rfl)
theorem dJ2_remove_10 : decode cJ2_remove 10 = .ok (.getfield 9, 3) := dk_180 0 9 (dk_at dksJ2_remove_0 10 rfl rfl)
theorem dJ2_remove_13 : decode cJ2_remove 13 = .ok (.astore_n 2, 1) := dk_77 (dk_at dksJ2_remove_0 13 rfl rfl)
theorem dJ2_remove_14 : decode cJ2_remove 14 = .ok (.aload_n 2, 1) := dk_44 (dk_at dksJ2_remove_0 14 rfl rfl)
theorem dJ2_remove_15 : decode cJ2_remove 15 = .ok (.iload_n 1, 1) := dk_27 (dk_at dksJ2_remove_0 15 rfl rfl)
theorem dJ2_remove_16 : decode cJ2_remove 16 = .ok (.aaload, 1) := dk_50 (dk_at dksJ2_remove_0 16 rfl rfl)
theorem dJ2_remove_17 : decode cJ2_remove 17 = .ok (.astore_n 3, 1) := dk_78 (dk_at dksJ2_remove_0 17 rfl rfl)
theorem dJ2_remove_18 : decode cJ2_remove 18 = .ok (.aload_n 0, 1) := dk_42 (dk_at dksJ2_remove_0 18 rfl rfl)
theorem dJ2_remove_19 : decode cJ2_remove 19 = .ok (.aload_n 2, 1) := dk_44 (dk_at dksJ2_remove_0 19 rfl rfl)
theorem dJ2_remove_20 : decode cJ2_remove 20 = .ok (.iload_n 1, 1) := dk_27 (dk_at dksJ2_remove_0 20 rfl rfl)
theorem dJ2_remove_21 : decode cJ2_remove 21 = .ok (.invokevirtual 144, 3) := dk_182 0 144 (dk_at dksJ2_remove_0 21 rfl rfl)
theorem dJ2_remove_24 : decode cJ2_remove 24 = .ok (.aload_n 3, 1) := dk_45 (dk_at dksJ2_remove_1 0 rfl rfl)
theorem dJ2_remove_25 : decode cJ2_remove 25 = .ok (.areturn, 1) := dk_176 (dk_at dksJ2_remove_1 1 rfl rfl)
abbrev cJ2_fastRemove : ByteArray := prog_43_method_39_code
def yJ2_fastRemove : MethodName := ⟨RJ2, "fastRemove", "([Ljava/lang/Object;I)V"⟩
def dkwJ2_fastRemove_1 : List UInt8 := [4, 96, 43, 28, 29, 28, 100, 184, 0, 112, 43, 42, 29, 90, 181, 0, 48, 1, 83, 177]
abbrev dktJ2_fastRemove_1 : List UInt8 := dkwJ2_fastRemove_1 ++ []
def dkwJ2_fastRemove_0 : List UInt8 := [42, 89, 180, 0, 63, 4, 96, 181, 0, 63, 42, 180, 0, 48, 4, 100, 89, 62, 28, 164, 0, 15, 43, 28]
abbrev dktJ2_fastRemove_0 : List UInt8 := dkwJ2_fastRemove_0 ++ dktJ2_fastRemove_1
theorem dksJ2_fastRemove_0 : cJ2_fastRemove.data.toList.drop 0 = dktJ2_fastRemove_0 := by decide +kernel
theorem dksJ2_fastRemove_1 : cJ2_fastRemove.data.toList.drop 24 = dktJ2_fastRemove_1 := dk_seg dksJ2_fastRemove_0 24 rfl rfl
theorem dJ2_fastRemove_0 : decode cJ2_fastRemove 0 = .ok (.aload_n 0, 1) := dk_42 (dk_at dksJ2_fastRemove_0 0 rfl rfl)
theorem dJ2_fastRemove_1 : decode cJ2_fastRemove 1 = .ok (.dup, 1) := dk_89 (dk_at dksJ2_fastRemove_0 1 rfl rfl)
theorem dJ2_fastRemove_2 : decode cJ2_fastRemove 2 = .ok (.getfield 63, 3) := dk_180 0 63 (dk_at dksJ2_fastRemove_0 2 rfl rfl)
theorem dJ2_fastRemove_5 : decode cJ2_fastRemove 5 = .ok (.iconst 1, 1) := dk_4 (dk_at dksJ2_fastRemove_0 5 rfl rfl)
theorem dJ2_fastRemove_6 : decode cJ2_fastRemove 6 = .ok (.iadd, 1) := dk_96 (dk_at dksJ2_fastRemove_0 6 rfl rfl)
theorem dJ2_fastRemove_7 : decode cJ2_fastRemove 7 = .ok (.putfield 63, 3) := dk_181 0 63 (dk_at dksJ2_fastRemove_0 7 rfl rfl)
theorem dJ2_fastRemove_10 : decode cJ2_fastRemove 10 = .ok (.aload_n 0, 1) := dk_42 (dk_at dksJ2_fastRemove_0 10 rfl rfl)
theorem dJ2_fastRemove_11 : decode cJ2_fastRemove 11 = .ok (.getfield 48, 3) := dk_180 0 48 (dk_at dksJ2_fastRemove_0 11 rfl rfl)
theorem dJ2_fastRemove_14 : decode cJ2_fastRemove 14 = .ok (.iconst 1, 1) := dk_4 (dk_at dksJ2_fastRemove_0 14 rfl rfl)
theorem dJ2_fastRemove_15 : decode cJ2_fastRemove 15 = .ok (.isub, 1) := dk_100 (dk_at dksJ2_fastRemove_0 15 rfl rfl)
theorem dJ2_fastRemove_16 : decode cJ2_fastRemove 16 = .ok (.dup, 1) := dk_89 (dk_at dksJ2_fastRemove_0 16 rfl rfl)
theorem dJ2_fastRemove_17 : decode cJ2_fastRemove 17 = .ok (.istore_n 3, 1) := dk_62 (dk_at dksJ2_fastRemove_0 17 rfl rfl)
theorem dJ2_fastRemove_18 : decode cJ2_fastRemove 18 = .ok (.iload_n 2, 1) := dk_28 (dk_at dksJ2_fastRemove_0 18 rfl rfl)
theorem dJ2_fastRemove_19 : decode cJ2_fastRemove 19 = .ok (.if_icmp .le 15, 3) := dk_164 0 15 (dk_at dksJ2_fastRemove_0 19 rfl rfl)
theorem dJ2_fastRemove_22 : decode cJ2_fastRemove 22 = .ok (.aload_n 1, 1) := dk_43 (dk_at dksJ2_fastRemove_0 22 rfl rfl)
theorem dJ2_fastRemove_23 : decode cJ2_fastRemove 23 = .ok (.iload_n 2, 1) := dk_28 (dk_at dksJ2_fastRemove_0 23 rfl rfl)
theorem dJ2_fastRemove_24 : decode cJ2_fastRemove 24 = .ok (.iconst 1, 1) := dk_4 (dk_at dksJ2_fastRemove_1 0 rfl rfl)
theorem dJ2_fastRemove_25 : decode cJ2_fastRemove 25 = .ok (.iadd, 1) := dk_96 (dk_at dksJ2_fastRemove_1 1 rfl rfl)
theorem dJ2_fastRemove_26 : decode cJ2_fastRemove 26 = .ok (.aload_n 1, 1) := dk_43 (dk_at dksJ2_fastRemove_1 2 rfl rfl)
theorem dJ2_fastRemove_27 : decode cJ2_fastRemove 27 = .ok (.iload_n 2, 1) := dk_28 (dk_at dksJ2_fastRemove_1 3 rfl rfl)
theorem dJ2_fastRemove_28 : decode cJ2_fastRemove 28 = .ok (.iload_n 3, 1) := dk_29 (dk_at dksJ2_fastRemove_1 4 rfl rfl)
theorem dJ2_fastRemove_29 : decode cJ2_fastRemove 29 = .ok (.iload_n 2, 1) := dk_28 (dk_at dksJ2_fastRemove_1 5 rfl rfl)
theorem dJ2_fastRemove_30 : decode cJ2_fastRemove 30 = .ok (.isub, 1) := dk_100 (dk_at dksJ2_fastRemove_1 6 rfl rfl)
theorem dJ2_fastRemove_31 : decode cJ2_fastRemove 31 = .ok (.invokestatic 112, 3) := dk_184 0 112 (dk_at dksJ2_fastRemove_1 7 rfl rfl)
theorem dJ2_fastRemove_34 : decode cJ2_fastRemove 34 = .ok (.aload_n 1, 1) := dk_43 (dk_at dksJ2_fastRemove_1 10 rfl rfl)
theorem dJ2_fastRemove_35 : decode cJ2_fastRemove 35 = .ok (.aload_n 0, 1) := dk_42 (dk_at dksJ2_fastRemove_1 11 rfl rfl)
theorem dJ2_fastRemove_36 : decode cJ2_fastRemove 36 = .ok (.iload_n 3, 1) := dk_29 (dk_at dksJ2_fastRemove_1 12 rfl rfl)
theorem dJ2_fastRemove_37 : decode cJ2_fastRemove 37 = .ok (.dup_x1, 1) := dk_90 (dk_at dksJ2_fastRemove_1 13 rfl rfl)
theorem dJ2_fastRemove_38 : decode cJ2_fastRemove 38 = .ok (.putfield 48, 3) := dk_181 0 48 (dk_at dksJ2_fastRemove_1 14 rfl rfl)
theorem dJ2_fastRemove_41 : decode cJ2_fastRemove 41 = .ok (.aconst_null, 1) := dk_1 (dk_at dksJ2_fastRemove_1 17 rfl rfl)
theorem dJ2_fastRemove_42 : decode cJ2_fastRemove 42 = .ok (.aastore, 1) := dk_83 (dk_at dksJ2_fastRemove_1 18 rfl rfl)
theorem dJ2_fastRemove_43 : decode cJ2_fastRemove 43 = .ok (.return_, 1) := dk_177 (dk_at dksJ2_fastRemove_1 19 rfl rfl)
abbrev cJ2_set : ByteArray := prog_43_method_23_code
def yJ2_set : MethodName := ⟨RJ2, "set", "(ILjava/lang/Object;)Ljava/lang/Object;"⟩
def dkwJ2_set_0 : List UInt8 := [27, 42, 180, 0, 48, 184, 0, 118, 87, 42, 27, 182, 0, 123, 78, 42, 180, 0, 9, 27, 44, 83, 45, 176]
abbrev dktJ2_set_0 : List UInt8 := dkwJ2_set_0 ++ []
theorem dksJ2_set_0 : cJ2_set.data.toList.drop 0 = dktJ2_set_0 := by decide +kernel
theorem dJ2_set_0 : decode cJ2_set 0 = .ok (.iload_n 1, 1) := dk_27 (dk_at dksJ2_set_0 0 rfl rfl)
theorem dJ2_set_1 : decode cJ2_set 1 = .ok (.aload_n 0, 1) := dk_42 (dk_at dksJ2_set_0 1 rfl rfl)
theorem dJ2_set_2 : decode cJ2_set 2 = .ok (.getfield 48, 3) := dk_180 0 48 (dk_at dksJ2_set_0 2 rfl rfl)
theorem dJ2_set_5 : decode cJ2_set 5 = .ok (.invokestatic 118, 3) := dk_184 0 118 (dk_at dksJ2_set_0 5 rfl rfl)
theorem dJ2_set_8 : decode cJ2_set 8 = .ok (.pop, 1) := dk_87 (dk_at dksJ2_set_0 8 rfl rfl)
theorem dJ2_set_9 : decode cJ2_set 9 = .ok (.aload_n 0, 1) := dk_42 (dk_at dksJ2_set_0 9 rfl rfl)
theorem dJ2_set_10 : decode cJ2_set 10 = .ok (.iload_n 1, 1) := dk_27 (dk_at dksJ2_set_0 10 rfl rfl)
theorem dJ2_set_11 : decode cJ2_set 11 = .ok (.invokevirtual 123, 3) := dk_182 0 123 (dk_at dksJ2_set_0 11 rfl rfl)
theorem dJ2_set_14 : decode cJ2_set 14 = .ok (.astore_n 3, 1) := dk_78 (dk_at dksJ2_set_0 14 rfl rfl)
theorem dJ2_set_15 : decode cJ2_set 15 = .ok (.aload_n 0, 1) := dk_42 (dk_at dksJ2_set_0 15 rfl rfl)
theorem dJ2_set_16 : decode cJ2_set 16 = .ok (.getfield 9, 3) := dk_180 0 9 (dk_at dksJ2_set_0 16 rfl rfl)
theorem dJ2_set_19 : decode cJ2_set 19 = .ok (.iload_n 1, 1) := dk_27 (dk_at dksJ2_set_0 19 rfl rfl)
theorem dJ2_set_20 : decode cJ2_set 20 = .ok (.aload_n 2, 1) := dk_44 (dk_at dksJ2_set_0 20 rfl rfl)
theorem dJ2_set_21 : decode cJ2_set 21 = .ok (.aastore, 1) := dk_83 (dk_at dksJ2_set_0 21 rfl rfl)
theorem dJ2_set_22 : decode cJ2_set 22 = .ok (.aload_n 3, 1) := dk_45 (dk_at dksJ2_set_0 22 rfl rfl)
theorem dJ2_set_23 : decode cJ2_set 23 = .ok (.areturn, 1) := dk_176 (dk_at dksJ2_set_0 23 rfl rfl)
abbrev cJ2_isEmpty : ByteArray := prog_43_method_9_code
def yJ2_isEmpty : MethodName := ⟨RJ2, "isEmpty", "()Z"⟩
def dkwJ2_isEmpty_0 : List UInt8 := [42, 180, 0, 48, 154, 0, 7, 4, 167, 0, 4, 3, 172]
abbrev dktJ2_isEmpty_0 : List UInt8 := dkwJ2_isEmpty_0 ++ []
theorem dksJ2_isEmpty_0 : cJ2_isEmpty.data.toList.drop 0 = dktJ2_isEmpty_0 := by decide +kernel
theorem dJ2_isEmpty_0 : decode cJ2_isEmpty 0 = .ok (.aload_n 0, 1) := dk_42 (dk_at dksJ2_isEmpty_0 0 rfl rfl)
theorem dJ2_isEmpty_1 : decode cJ2_isEmpty 1 = .ok (.getfield 48, 3) := dk_180 0 48 (dk_at dksJ2_isEmpty_0 1 rfl rfl)
theorem dJ2_isEmpty_4 : decode cJ2_isEmpty 4 = .ok (.ifCond .ne 7, 3) := dk_154 0 7 (dk_at dksJ2_isEmpty_0 4 rfl rfl)
theorem dJ2_isEmpty_7 : decode cJ2_isEmpty 7 = .ok (.iconst 1, 1) := dk_4 (dk_at dksJ2_isEmpty_0 7 rfl rfl)
theorem dJ2_isEmpty_8 : decode cJ2_isEmpty 8 = .ok (.goto 4, 3) := dk_167 0 4 (dk_at dksJ2_isEmpty_0 8 rfl rfl)
theorem dJ2_isEmpty_11 : decode cJ2_isEmpty 11 = .ok (.iconst 0, 1) := dk_3 (dk_at dksJ2_isEmpty_0 11 rfl rfl)
theorem dJ2_isEmpty_12 : decode cJ2_isEmpty 12 = .ok (.ireturn, 1) := dk_172 (dk_at dksJ2_isEmpty_0 12 rfl rfl)
theorem q92 : (Jvm.Cond.initialized "java/util/ArrayList") ∈ lw_all := lw_g (lw_at lw_m1 8 rfl) rfl
theorem q205 : (Jvm.Cond.instantiable "java/util/ArrayList" (3 : Nat)) ∈ lw_all := lw_g (lw_at lw_m1 121 rfl) rfl
theorem q207 : (Jvm.Cond.instanceMethod ({ cls := "java/util/ArrayList", name := "<init>", desc := "()V" } : Jvm.MethodName)) ∈ lw_all := lw_g (lw_at lw_m1 123 rfl) rfl
theorem q208 : (Jvm.Cond.code ({ cls := "java/util/ArrayList", name := "<init>", desc := "()V" } : Jvm.MethodName) prog_43_method_2_code (1 : Nat) (Option.none : Option Jvm.ClassFile.FieldType)) ∈ lw_all := lw_g (lw_at lw_m1 124 rfl) rfl
theorem q209 : (Jvm.Cond.methodLink "java/util/ArrayList" (1 : Nat) ({ cls := "java/util/AbstractList", name := "<init>", desc := "()V" } : Jvm.MethodName)) ∈ lw_all := lw_g (lw_at lw_m1 125 rfl) rfl
theorem q216 : (Jvm.Cond.fieldLink "java/util/ArrayList" (39 : Nat) "java/util/ArrayList" "DEFAULTCAPACITY_EMPTY_ELEMENTDATA" "[Ljava/lang/Object;") ∈ lw_all := lw_g (lw_at lw_m1 132 rfl) rfl
theorem q217 : (Jvm.Cond.laysStatic "java/util/ArrayList" "DEFAULTCAPACITY_EMPTY_ELEMENTDATA" "[Ljava/lang/Object;") ∈ lw_tbl := lw_at lw_m1 133 rfl
theorem q218 : (Jvm.Cond.fieldLink "java/util/ArrayList" (9 : Nat) "java/util/ArrayList" "elementData" "[Ljava/lang/Object;") ∈ lw_all := lw_g (lw_at lw_m1 134 rfl) rfl
theorem q219 : (Jvm.Cond.fieldLink "java/util/ArrayList" (48 : Nat) "java/util/ArrayList" "size" "I") ∈ lw_all := lw_g (lw_at lw_m1 135 rfl) rfl
theorem q221 : (Jvm.Cond.fieldLink "java/util/ArrayList" (63 : Nat) "java/util/ArrayList" "modCount" "I") ∈ lw_all := lw_g (lw_at lw_m1 137 rfl) rfl
theorem q222 : (Jvm.Cond.sameField "java/util/ArrayList" "java/util/AbstractList" "modCount" "I") ∈ lw_all := lw_g (lw_at lw_m1 138 rfl) rfl
theorem q223 : (Jvm.Cond.lays "java/util/ArrayList" "java/util/ArrayList" "elementData" "[Ljava/lang/Object;") ∈ lw_all := lw_g (lw_at lw_m1 139 rfl) rfl
theorem q224 : (Jvm.Cond.soleField "java/util/ArrayList" "elementData") ∈ lw_all := lw_g (lw_at lw_m1 140 rfl) rfl
theorem q225 : (Jvm.Cond.lays "java/util/ArrayList" "java/util/ArrayList" "size" "I") ∈ lw_all := lw_g (lw_at lw_m1 141 rfl) rfl
theorem q226 : (Jvm.Cond.soleField "java/util/ArrayList" "size") ∈ lw_all := lw_g (lw_at lw_m1 142 rfl) rfl
theorem q227 : (Jvm.Cond.lays "java/util/ArrayList" "java/util/AbstractList" "modCount" "I") ∈ lw_all := lw_g (lw_at lw_m1 143 rfl) rfl
theorem q229 : (Jvm.Cond.superclass "java/util/ArrayList" "java/util/AbstractList") ∈ lw_all := lw_g (lw_at lw_m1 145 rfl) rfl
theorem q367 : (Jvm.Cond.instanceMethod ({ cls := "java/util/ArrayList", name := "size", desc := "()I" } : Jvm.MethodName)) ∈ lw_all := lw_g (lw_at lw_m2 43 rfl) rfl
theorem q368 : (Jvm.Cond.selects "java/util/ArrayList" ({ cls := "java/util/ArrayList", name := "size", desc := "()I" } : Jvm.MethodName) ({ cls := "java/util/ArrayList", name := "size", desc := "()I" } : Jvm.MethodName)) ∈ lw_all := lw_g (lw_at lw_m2 44 rfl) rfl
theorem q369 : (Jvm.Cond.code ({ cls := "java/util/ArrayList", name := "size", desc := "()I" } : Jvm.MethodName) prog_43_method_8_code (1 : Nat) (Option.some Jvm.ClassFile.FieldType.int)) ∈ lw_all := lw_g (lw_at lw_m2 45 rfl) rfl
theorem q371 : (Jvm.Cond.instanceMethod ({ cls := "java/util/ArrayList", name := "clear", desc := "()V" } : Jvm.MethodName)) ∈ lw_all := lw_g (lw_at lw_m2 47 rfl) rfl
theorem q372 : (Jvm.Cond.selects "java/util/ArrayList" ({ cls := "java/util/ArrayList", name := "clear", desc := "()V" } : Jvm.MethodName) ({ cls := "java/util/ArrayList", name := "clear", desc := "()V" } : Jvm.MethodName)) ∈ lw_all := lw_g (lw_at lw_m2 48 rfl) rfl
theorem q373 : (Jvm.Cond.code ({ cls := "java/util/ArrayList", name := "clear", desc := "()V" } : Jvm.MethodName) prog_43_method_40_code (4 : Nat) (Option.none : Option Jvm.ClassFile.FieldType)) ∈ lw_all := lw_g (lw_at lw_m2 49 rfl) rfl
theorem q580 : (Jvm.Cond.instanceMethod ({ cls := "java/util/ArrayList", name := "get", desc := "(I)Ljava/lang/Object;" } : Jvm.MethodName)) ∈ lw_all := lw_g (lw_at lw_m3 16 rfl) rfl
theorem q581 : (Jvm.Cond.selects "java/util/ArrayList" ({ cls := "java/util/ArrayList", name := "get", desc := "(I)Ljava/lang/Object;" } : Jvm.MethodName) ({ cls := "java/util/ArrayList", name := "get", desc := "(I)Ljava/lang/Object;" } : Jvm.MethodName)) ∈ lw_all := lw_g (lw_at lw_m3 17 rfl) rfl
theorem q582 : (Jvm.Cond.code ({ cls := "java/util/ArrayList", name := "get", desc := "(I)Ljava/lang/Object;" } : Jvm.MethodName) prog_43_method_20_code (2 : Nat) (Option.some (Jvm.ClassFile.FieldType.object "java/lang/Object"))) ∈ lw_all := lw_g (lw_at lw_m3 18 rfl) rfl
theorem q583 : (Jvm.Cond.methodLink "java/util/ArrayList" (118 : Nat) ({ cls := "java/util/Objects", name := "checkIndex", desc := "(II)I" } : Jvm.MethodName)) ∈ lw_all := lw_g (lw_at lw_m3 19 rfl) rfl
theorem q589 : (Jvm.Cond.methodLink "java/util/ArrayList" (123 : Nat) ({ cls := "java/util/ArrayList", name := "elementData", desc := "(I)Ljava/lang/Object;" } : Jvm.MethodName)) ∈ lw_all := lw_g (lw_at lw_m3 25 rfl) rfl
theorem q590 : (Jvm.Cond.instanceMethod ({ cls := "java/util/ArrayList", name := "elementData", desc := "(I)Ljava/lang/Object;" } : Jvm.MethodName)) ∈ lw_all := lw_g (lw_at lw_m3 26 rfl) rfl
theorem q591 : (Jvm.Cond.selects "java/util/ArrayList" ({ cls := "java/util/ArrayList", name := "elementData", desc := "(I)Ljava/lang/Object;" } : Jvm.MethodName) ({ cls := "java/util/ArrayList", name := "elementData", desc := "(I)Ljava/lang/Object;" } : Jvm.MethodName)) ∈ lw_all := lw_g (lw_at lw_m3 27 rfl) rfl
theorem q592 : (Jvm.Cond.code ({ cls := "java/util/ArrayList", name := "elementData", desc := "(I)Ljava/lang/Object;" } : Jvm.MethodName) prog_43_method_18_code (2 : Nat) (Option.some (Jvm.ClassFile.FieldType.object "java/lang/Object"))) ∈ lw_all := lw_g (lw_at lw_m3 28 rfl) rfl
theorem q657 : (Jvm.Cond.instanceMethod ({ cls := "java/util/ArrayList", name := "add", desc := "(ILjava/lang/Object;)V" } : Jvm.MethodName)) ∈ lw_all := lw_g (lw_at lw_m3 93 rfl) rfl
theorem q658 : (Jvm.Cond.selects "java/util/ArrayList" ({ cls := "java/util/ArrayList", name := "add", desc := "(ILjava/lang/Object;)V" } : Jvm.MethodName) ({ cls := "java/util/ArrayList", name := "add", desc := "(ILjava/lang/Object;)V" } : Jvm.MethodName)) ∈ lw_all := lw_g (lw_at lw_m3 94 rfl) rfl
theorem q659 : (Jvm.Cond.code ({ cls := "java/util/ArrayList", name := "add", desc := "(ILjava/lang/Object;)V" } : Jvm.MethodName) prog_43_method_26_code (5 : Nat) (Option.none : Option Jvm.ClassFile.FieldType)) ∈ lw_all := lw_g (lw_at lw_m3 95 rfl) rfl
theorem q660 : (Jvm.Cond.methodLink "java/util/ArrayList" (135 : Nat) ({ cls := "java/util/ArrayList", name := "rangeCheckForAdd", desc := "(I)V" } : Jvm.MethodName)) ∈ lw_all := lw_g (lw_at lw_m3 96 rfl) rfl
theorem q661 : (Jvm.Cond.privateMethod ({ cls := "java/util/ArrayList", name := "rangeCheckForAdd", desc := "(I)V" } : Jvm.MethodName)) ∈ lw_tbl := lw_at lw_m3 97 rfl
theorem q662 : (Jvm.Cond.instanceMethod ({ cls := "java/util/ArrayList", name := "rangeCheckForAdd", desc := "(I)V" } : Jvm.MethodName)) ∈ lw_all := lw_g (lw_at lw_m3 98 rfl) rfl
theorem q663 : (Jvm.Cond.code ({ cls := "java/util/ArrayList", name := "rangeCheckForAdd", desc := "(I)V" } : Jvm.MethodName) prog_43_method_45_code (2 : Nat) (Option.none : Option Jvm.ClassFile.FieldType)) ∈ lw_all := lw_g (lw_at lw_m3 99 rfl) rfl
theorem q664 : (Jvm.Cond.classLink "java/util/ArrayList" (187 : Nat) "java/lang/IndexOutOfBoundsException") ∈ lw_all := lw_g (lw_at lw_m3 100 rfl) rfl
theorem q665 : (Jvm.Cond.methodLink "java/util/ArrayList" (198 : Nat) ({ cls := "java/util/ArrayList", name := "outOfBoundsMsg", desc := "(I)Ljava/lang/String;" } : Jvm.MethodName)) ∈ lw_all := lw_g (lw_at lw_m3 101 rfl) rfl
theorem q666 : (Jvm.Cond.privateMethod ({ cls := "java/util/ArrayList", name := "outOfBoundsMsg", desc := "(I)Ljava/lang/String;" } : Jvm.MethodName)) ∈ lw_tbl := lw_at lw_m3 102 rfl
theorem q667 : (Jvm.Cond.instanceMethod ({ cls := "java/util/ArrayList", name := "outOfBoundsMsg", desc := "(I)Ljava/lang/String;" } : Jvm.MethodName)) ∈ lw_all := lw_g (lw_at lw_m3 103 rfl) rfl
theorem q668 : (Jvm.Cond.code ({ cls := "java/util/ArrayList", name := "outOfBoundsMsg", desc := "(I)Ljava/lang/String;" } : Jvm.MethodName) prog_43_method_46_code (2 : Nat) (Option.some (Jvm.ClassFile.FieldType.object "java/lang/String"))) ∈ lw_all := lw_g (lw_at lw_m3 104 rfl) rfl
theorem q669 : (Jvm.Cond.classLink "java/util/ArrayList" (20 : Nat) "java/lang/StringBuilder") ∈ lw_all := lw_g (lw_at lw_m3 105 rfl) rfl
theorem q671 : (Jvm.Cond.methodLink "java/util/ArrayList" (22 : Nat) ({ cls := "java/lang/StringBuilder", name := "<init>", desc := "()V" } : Jvm.MethodName)) ∈ lw_all := lw_g (lw_at lw_m3 107 rfl) rfl
theorem q700 : (Jvm.Cond.stringRef "java/util/ArrayList" (201 : Nat) "Index: ") ∈ lw_tbl := lw_at lw_m3 136 rfl
theorem q701 : (Jvm.Cond.methodLink "java/util/ArrayList" (25 : Nat) ({ cls := "java/lang/StringBuilder", name := "append", desc := "(Ljava/lang/String;)Ljava/lang/StringBuilder;" } : Jvm.MethodName)) ∈ lw_all := lw_g (lw_at lw_m3 137 rfl) rfl
theorem q817 : (Jvm.Cond.methodLink "java/util/ArrayList" (29 : Nat) ({ cls := "java/lang/StringBuilder", name := "append", desc := "(I)Ljava/lang/StringBuilder;" } : Jvm.MethodName)) ∈ lw_all := lw_g (lw_at lw_m4 13 rfl) rfl
theorem q842 : (Jvm.Cond.stringRef "java/util/ArrayList" (203 : Nat) ", Size: ") ∈ lw_tbl := lw_at lw_m4 38 rfl
theorem q843 : (Jvm.Cond.methodLink "java/util/ArrayList" (32 : Nat) ({ cls := "java/lang/StringBuilder", name := "toString", desc := "()Ljava/lang/String;" } : Jvm.MethodName)) ∈ lw_all := lw_g (lw_at lw_m4 39 rfl) rfl
theorem q906 : (Jvm.Cond.methodLink "java/util/ArrayList" (193 : Nat) ({ cls := "java/lang/IndexOutOfBoundsException", name := "<init>", desc := "(Ljava/lang/String;)V" } : Jvm.MethodName)) ∈ lw_all := lw_g (lw_at lw_m4 102 rfl) rfl
theorem q907 : (Jvm.Cond.methodLink "java/util/ArrayList" (129 : Nat) ({ cls := "java/util/ArrayList", name := "grow", desc := "()[Ljava/lang/Object;" } : Jvm.MethodName)) ∈ lw_all := lw_g (lw_at lw_m4 103 rfl) rfl
theorem q908 : (Jvm.Cond.privateMethod ({ cls := "java/util/ArrayList", name := "grow", desc := "()[Ljava/lang/Object;" } : Jvm.MethodName)) ∈ lw_tbl := lw_at lw_m4 104 rfl
theorem q909 : (Jvm.Cond.instanceMethod ({ cls := "java/util/ArrayList", name := "grow", desc := "()[Ljava/lang/Object;" } : Jvm.MethodName)) ∈ lw_all := lw_g (lw_at lw_m4 105 rfl) rfl
theorem q910 : (Jvm.Cond.code ({ cls := "java/util/ArrayList", name := "grow", desc := "()[Ljava/lang/Object;" } : Jvm.MethodName) prog_43_method_7_code (1 : Nat) (Option.some (Jvm.ClassFile.FieldType.array (Jvm.ClassFile.FieldType.object "java/lang/Object")))) ∈ lw_all := lw_g (lw_at lw_m4 106 rfl) rfl
theorem q911 : (Jvm.Cond.methodLink "java/util/ArrayList" (69 : Nat) ({ cls := "java/util/ArrayList", name := "grow", desc := "(I)[Ljava/lang/Object;" } : Jvm.MethodName)) ∈ lw_all := lw_g (lw_at lw_m4 107 rfl) rfl
theorem q912 : (Jvm.Cond.privateMethod ({ cls := "java/util/ArrayList", name := "grow", desc := "(I)[Ljava/lang/Object;" } : Jvm.MethodName)) ∈ lw_tbl := lw_at lw_m4 108 rfl
theorem q913 : (Jvm.Cond.instanceMethod ({ cls := "java/util/ArrayList", name := "grow", desc := "(I)[Ljava/lang/Object;" } : Jvm.MethodName)) ∈ lw_all := lw_g (lw_at lw_m4 109 rfl) rfl
theorem q914 : (Jvm.Cond.code ({ cls := "java/util/ArrayList", name := "grow", desc := "(I)[Ljava/lang/Object;" } : Jvm.MethodName) prog_43_method_6_code (4 : Nat) (Option.some (Jvm.ClassFile.FieldType.array (Jvm.ClassFile.FieldType.object "java/lang/Object")))) ∈ lw_all := lw_g (lw_at lw_m4 110 rfl) rfl
theorem q915 : (Jvm.Cond.methodLink "java/util/ArrayList" (73 : Nat) ({ cls := "jdk/internal/util/ArraysSupport", name := "newLength", desc := "(III)I" } : Jvm.MethodName)) ∈ lw_all := lw_g (lw_at lw_m4 111 rfl) rfl
theorem q916 : (Jvm.Cond.methodLink "java/util/ArrayList" (66 : Nat) ({ cls := "java/util/Arrays", name := "copyOf", desc := "([Ljava/lang/Object;I)[Ljava/lang/Object;" } : Jvm.MethodName)) ∈ lw_all := lw_g (lw_at lw_m4 112 rfl) rfl
theorem q947 : (Jvm.Cond.selects "java/util/ArrayList" ({ cls := "java/lang/Object", name := "getClass", desc := "()Ljava/lang/Class;" } : Jvm.MethodName) ({ cls := "java/lang/Object", name := "getClass", desc := "()Ljava/lang/Class;" } : Jvm.MethodName)) ∈ lw_all := lw_g (lw_at lw_m4 143 rfl) rfl
theorem q955 : (Jvm.Cond.methodLink "java/util/ArrayList" (79 : Nat) ({ cls := "java/lang/Math", name := "max", desc := "(II)I" } : Jvm.MethodName)) ∈ lw_all := lw_g (lw_at lw_m4 151 rfl) rfl
theorem q956 : (Jvm.Cond.classLink "java/util/ArrayList" (7 : Nat) "java/lang/Object") ∈ lw_all := lw_g (lw_at lw_m4 152 rfl) rfl
theorem q957 : (Jvm.Cond.methodLink "java/util/ArrayList" (112 : Nat) ({ cls := "java/lang/System", name := "arraycopy", desc := "(Ljava/lang/Object;ILjava/lang/Object;II)V" } : Jvm.MethodName)) ∈ lw_all := lw_g (lw_at lw_m4 153 rfl) rfl
theorem q983 : (Jvm.Cond.instanceMethod ({ cls := "java/util/ArrayList", name := "add", desc := "(Ljava/lang/Object;)Z" } : Jvm.MethodName)) ∈ lw_all := lw_g (lw_at lw_m4 179 rfl) rfl
theorem q984 : (Jvm.Cond.selects "java/util/ArrayList" ({ cls := "java/util/ArrayList", name := "add", desc := "(Ljava/lang/Object;)Z" } : Jvm.MethodName) ({ cls := "java/util/ArrayList", name := "add", desc := "(Ljava/lang/Object;)Z" } : Jvm.MethodName)) ∈ lw_all := lw_g (lw_at lw_m4 180 rfl) rfl
theorem q985 : (Jvm.Cond.code ({ cls := "java/util/ArrayList", name := "add", desc := "(Ljava/lang/Object;)Z" } : Jvm.MethodName) prog_43_method_25_code (2 : Nat) (Option.some Jvm.ClassFile.FieldType.boolean)) ∈ lw_all := lw_g (lw_at lw_m4 181 rfl) rfl
theorem q986 : (Jvm.Cond.methodLink "java/util/ArrayList" (131 : Nat) ({ cls := "java/util/ArrayList", name := "add", desc := "(Ljava/lang/Object;[Ljava/lang/Object;I)V" } : Jvm.MethodName)) ∈ lw_all := lw_g (lw_at lw_m4 182 rfl) rfl
theorem q987 : (Jvm.Cond.privateMethod ({ cls := "java/util/ArrayList", name := "add", desc := "(Ljava/lang/Object;[Ljava/lang/Object;I)V" } : Jvm.MethodName)) ∈ lw_tbl := lw_at lw_m4 183 rfl
theorem q988 : (Jvm.Cond.instanceMethod ({ cls := "java/util/ArrayList", name := "add", desc := "(Ljava/lang/Object;[Ljava/lang/Object;I)V" } : Jvm.MethodName)) ∈ lw_all := lw_g (lw_at lw_m4 184 rfl) rfl
theorem q989 : (Jvm.Cond.code ({ cls := "java/util/ArrayList", name := "add", desc := "(Ljava/lang/Object;[Ljava/lang/Object;I)V" } : Jvm.MethodName) prog_43_method_24_code (4 : Nat) (Option.none : Option Jvm.ClassFile.FieldType)) ∈ lw_all := lw_g (lw_at lw_m4 185 rfl) rfl
theorem q1015 : (Jvm.Cond.instanceMethod ({ cls := "java/util/ArrayList", name := "remove", desc := "(I)Ljava/lang/Object;" } : Jvm.MethodName)) ∈ lw_all := lw_g (lw_at lw_m4 211 rfl) rfl
theorem q1016 : (Jvm.Cond.selects "java/util/ArrayList" ({ cls := "java/util/ArrayList", name := "remove", desc := "(I)Ljava/lang/Object;" } : Jvm.MethodName) ({ cls := "java/util/ArrayList", name := "remove", desc := "(I)Ljava/lang/Object;" } : Jvm.MethodName)) ∈ lw_all := lw_g (lw_at lw_m4 212 rfl) rfl
theorem q1017 : (Jvm.Cond.code ({ cls := "java/util/ArrayList", name := "remove", desc := "(I)Ljava/lang/Object;" } : Jvm.MethodName) prog_43_method_29_code (4 : Nat) (Option.some (Jvm.ClassFile.FieldType.object "java/lang/Object"))) ∈ lw_all := lw_g (lw_at lw_m4 213 rfl) rfl
theorem q1018 : (Jvm.Cond.methodLink "java/util/ArrayList" (144 : Nat) ({ cls := "java/util/ArrayList", name := "fastRemove", desc := "([Ljava/lang/Object;I)V" } : Jvm.MethodName)) ∈ lw_all := lw_g (lw_at lw_m4 214 rfl) rfl
theorem q1019 : (Jvm.Cond.privateMethod ({ cls := "java/util/ArrayList", name := "fastRemove", desc := "([Ljava/lang/Object;I)V" } : Jvm.MethodName)) ∈ lw_tbl := lw_at lw_m4 215 rfl
theorem q1020 : (Jvm.Cond.instanceMethod ({ cls := "java/util/ArrayList", name := "fastRemove", desc := "([Ljava/lang/Object;I)V" } : Jvm.MethodName)) ∈ lw_all := lw_g (lw_at lw_m4 216 rfl) rfl
theorem q1021 : (Jvm.Cond.code ({ cls := "java/util/ArrayList", name := "fastRemove", desc := "([Ljava/lang/Object;I)V" } : Jvm.MethodName) prog_43_method_39_code (4 : Nat) (Option.none : Option Jvm.ClassFile.FieldType)) ∈ lw_all := lw_g (lw_at lw_m4 217 rfl) rfl
theorem q1063 : (Jvm.Cond.instanceMethod ({ cls := "java/util/ArrayList", name := "set", desc := "(ILjava/lang/Object;)Ljava/lang/Object;" } : Jvm.MethodName)) ∈ lw_all := lw_g (lw_at lw_m5 19 rfl) rfl
theorem q1064 : (Jvm.Cond.selects "java/util/ArrayList" ({ cls := "java/util/ArrayList", name := "set", desc := "(ILjava/lang/Object;)Ljava/lang/Object;" } : Jvm.MethodName) ({ cls := "java/util/ArrayList", name := "set", desc := "(ILjava/lang/Object;)Ljava/lang/Object;" } : Jvm.MethodName)) ∈ lw_all := lw_g (lw_at lw_m5 20 rfl) rfl
theorem q1065 : (Jvm.Cond.code ({ cls := "java/util/ArrayList", name := "set", desc := "(ILjava/lang/Object;)Ljava/lang/Object;" } : Jvm.MethodName) prog_43_method_23_code (4 : Nat) (Option.some (Jvm.ClassFile.FieldType.object "java/lang/Object"))) ∈ lw_all := lw_g (lw_at lw_m5 21 rfl) rfl
theorem q1251 : (Jvm.Cond.instanceMethod ({ cls := "java/util/ArrayList", name := "isEmpty", desc := "()Z" } : Jvm.MethodName)) ∈ lw_all := lw_g (lw_at lw_m5 207 rfl) rfl
theorem q1252 : (Jvm.Cond.selects "java/util/ArrayList" ({ cls := "java/util/ArrayList", name := "isEmpty", desc := "()Z" } : Jvm.MethodName) ({ cls := "java/util/ArrayList", name := "isEmpty", desc := "()Z" } : Jvm.MethodName)) ∈ lw_all := lw_g (lw_at lw_m5 208 rfl) rfl
theorem q1253 : (Jvm.Cond.code ({ cls := "java/util/ArrayList", name := "isEmpty", desc := "()Z" } : Jvm.MethodName) prog_43_method_9_code (1 : Nat) (Option.some Jvm.ClassFile.FieldType.boolean)) ∈ lw_all := lw_g (lw_at lw_m5 209 rfl) rfl
theorem q2342 : (Jvm.Cond.castable "java/util/ArrayList" "java/lang/Object") ∈ lw_tbl := lw_at lw_m10 98 rfl
theorem in_J2 : ∀ w ∈ wsJ20, w ∈ lw_all := lw_in wsJ20 [227, 223, 225] (by decide +kernel) (by decide +kernel)
/-! java/lang/Throwable -/
set_option maxRecDepth 100000
def RJ3 : String := "java/lang/Throwable"
def TJ3 : u_T := fun k => match k with
  | 0 => ("java/lang/Throwable", "cause", "Ljava/lang/Throwable;", false)
  | 1 => ("java/lang/Throwable", "stackTrace", "[Ljava/lang/StackTraceElement;", false)
  | 2 => ("java/lang/Throwable", "suppressedExceptions", "Ljava/util/List;", false)
  | 3 => ("java/lang/Throwable", "detailMessage", "Ljava/lang/String;", false)
  | _ => ("java/lang/Throwable", "backtrace", "Ljava/lang/Object;", false)
def tyJ3 : Nat → FieldType := fun k => match k with
  | 0 => .object "java/lang/Throwable"
  | 1 => .array (.object "java/lang/StackTraceElement")
  | 2 => .object "java/util/List"
  | 3 => .object "java/lang/String"
  | _ => .object "java/lang/Object"
abbrev wsJ30 : List Cond := u_ws RJ3 TJ3 5
theorem nmJ3 : ∀ a, a < 5 → ∀ b, b < 5 → a ≠ b → (TJ3 a).2.1 ≠ (TJ3 b).2.1 := by decide +kernel
theorem tyJ3_ok : ∀ k, k < 5 → parseFieldDescriptor (TJ3 k).2.2.1 = some (tyJ3 k) := by decide +kernel
abbrev cJ3_init : ByteArray := prog_40_method_2_code
def yJ3_init : MethodName := ⟨RJ3, "<init>", "(Ljava/lang/String;)V"⟩
def dkwJ3_init_1 : List UInt8 := [182, 0, 27, 87, 42, 43, 181, 0, 31, 177]
abbrev dktJ3_init_1 : List UInt8 := dkwJ3_init_1 ++ []
def dkwJ3_init_0 : List UInt8 := [42, 183, 0, 1, 42, 42, 181, 0, 7, 42, 178, 0, 13, 181, 0, 17, 42, 178, 0, 20, 181, 0, 24, 42]
abbrev dktJ3_init_0 : List UInt8 := dkwJ3_init_0 ++ dktJ3_init_1
theorem dksJ3_init_0 : cJ3_init.data.toList.drop 0 = dktJ3_init_0 := by decide +kernel
theorem dksJ3_init_1 : cJ3_init.data.toList.drop 24 = dktJ3_init_1 := dk_seg dksJ3_init_0 24 rfl rfl
theorem dJ3_init_0 : decode cJ3_init 0 = .ok (.aload_n 0, 1) := dk_42 (dk_at dksJ3_init_0 0 rfl rfl)
theorem dJ3_init_1 : decode cJ3_init 1 = .ok (.invokespecial 1, 3) := dk_183 0 1 (dk_at dksJ3_init_0 1 rfl rfl)
theorem dJ3_init_4 : decode cJ3_init 4 = .ok (.aload_n 0, 1) := dk_42 (dk_at dksJ3_init_0 4 rfl rfl)
theorem dJ3_init_5 : decode cJ3_init 5 = .ok (.aload_n 0, 1) := dk_42 (dk_at dksJ3_init_0 5 rfl rfl)
theorem dJ3_init_6 : decode cJ3_init 6 = .ok (.putfield 7, 3) := dk_181 0 7 (dk_at dksJ3_init_0 6 rfl rfl)
theorem dJ3_init_9 : decode cJ3_init 9 = .ok (.aload_n 0, 1) := dk_42 (dk_at dksJ3_init_0 9 rfl rfl)
theorem dJ3_init_10 : decode cJ3_init 10 = .ok (.getstatic 13, 3) := dk_178 0 13 (dk_at dksJ3_init_0 10 rfl rfl)
theorem dJ3_init_13 : decode cJ3_init 13 = .ok (.putfield 17, 3) := dk_181 0 17 (dk_at dksJ3_init_0 13 rfl rfl)
theorem dJ3_init_16 : decode cJ3_init 16 = .ok (.aload_n 0, 1) := dk_42 (dk_at dksJ3_init_0 16 rfl rfl)
theorem dJ3_init_17 : decode cJ3_init 17 = .ok (.getstatic 20, 3) := dk_178 0 20 (dk_at dksJ3_init_0 17 rfl rfl)
theorem dJ3_init_20 : decode cJ3_init 20 = .ok (.putfield 24, 3) := dk_181 0 24 (dk_at dksJ3_init_0 20 rfl rfl)
theorem dJ3_init_23 : decode cJ3_init 23 = .ok (.aload_n 0, 1) := dk_42 (dk_at dksJ3_init_0 23 rfl rfl)
theorem dJ3_init_24 : decode cJ3_init 24 = .ok (.invokevirtual 27, 3) := dk_182 0 27 (dk_at dksJ3_init_1 0 rfl rfl)
theorem dJ3_init_27 : decode cJ3_init 27 = .ok (.pop, 1) := dk_87 (dk_at dksJ3_init_1 3 rfl rfl)
theorem dJ3_init_28 : decode cJ3_init 28 = .ok (.aload_n 0, 1) := dk_42 (dk_at dksJ3_init_1 4 rfl rfl)
theorem dJ3_init_29 : decode cJ3_init 29 = .ok (.aload_n 1, 1) := dk_43 (dk_at dksJ3_init_1 5 rfl rfl)
theorem dJ3_init_30 : decode cJ3_init 30 = .ok (.putfield 31, 3) := dk_181 0 31 (dk_at dksJ3_init_1 6 rfl rfl)
theorem dJ3_init_33 : decode cJ3_init 33 = .ok (.return_, 1) := dk_177 (dk_at dksJ3_init_1 9 rfl rfl)
abbrev cJ3_init_2 : ByteArray := prog_40_method_1_code
def yJ3_init_2 : MethodName := ⟨RJ3, "<init>", "()V"⟩
def dkwJ3_init_2_1 : List UInt8 := [182, 0, 27, 87, 177]
abbrev dktJ3_init_2_1 : List UInt8 := dkwJ3_init_2_1 ++ []
def dkwJ3_init_2_0 : List UInt8 := [42, 183, 0, 1, 42, 42, 181, 0, 7, 42, 178, 0, 13, 181, 0, 17, 42, 178, 0, 20, 181, 0, 24, 42]
abbrev dktJ3_init_2_0 : List UInt8 := dkwJ3_init_2_0 ++ dktJ3_init_2_1
theorem dksJ3_init_2_0 : cJ3_init_2.data.toList.drop 0 = dktJ3_init_2_0 := by decide +kernel
theorem dksJ3_init_2_1 : cJ3_init_2.data.toList.drop 24 = dktJ3_init_2_1 := dk_seg dksJ3_init_2_0 24 rfl rfl
theorem dJ3_init_2_0 : decode cJ3_init_2 0 = .ok (.aload_n 0, 1) := dk_42 (dk_at dksJ3_init_2_0 0 rfl rfl)
theorem dJ3_init_2_1 : decode cJ3_init_2 1 = .ok (.invokespecial 1, 3) := dk_183 0 1 (dk_at dksJ3_init_2_0 1 rfl rfl)
theorem dJ3_init_2_4 : decode cJ3_init_2 4 = .ok (.aload_n 0, 1) := dk_42 (dk_at dksJ3_init_2_0 4 rfl rfl)
theorem dJ3_init_2_5 : decode cJ3_init_2 5 = .ok (.aload_n 0, 1) := dk_42 (dk_at dksJ3_init_2_0 5 rfl rfl)
theorem dJ3_init_2_6 : decode cJ3_init_2 6 = .ok (.putfield 7, 3) := dk_181 0 7 (dk_at dksJ3_init_2_0 6 rfl rfl)
theorem dJ3_init_2_9 : decode cJ3_init_2 9 = .ok (.aload_n 0, 1) := dk_42 (dk_at dksJ3_init_2_0 9 rfl rfl)
theorem dJ3_init_2_10 : decode cJ3_init_2 10 = .ok (.getstatic 13, 3) := dk_178 0 13 (dk_at dksJ3_init_2_0 10 rfl rfl)
theorem dJ3_init_2_13 : decode cJ3_init_2 13 = .ok (.putfield 17, 3) := dk_181 0 17 (dk_at dksJ3_init_2_0 13 rfl rfl)
theorem dJ3_init_2_16 : decode cJ3_init_2 16 = .ok (.aload_n 0, 1) := dk_42 (dk_at dksJ3_init_2_0 16 rfl rfl)
theorem dJ3_init_2_17 : decode cJ3_init_2 17 = .ok (.getstatic 20, 3) := dk_178 0 20 (dk_at dksJ3_init_2_0 17 rfl rfl)
theorem dJ3_init_2_20 : decode cJ3_init_2 20 = .ok (.putfield 24, 3) := dk_181 0 24 (dk_at dksJ3_init_2_0 20 rfl rfl)
theorem dJ3_init_2_23 : decode cJ3_init_2 23 = .ok (.aload_n 0, 1) := dk_42 (dk_at dksJ3_init_2_0 23 rfl rfl)
theorem dJ3_init_2_24 : decode cJ3_init_2 24 = .ok (.invokevirtual 27, 3) := dk_182 0 27 (dk_at dksJ3_init_2_1 0 rfl rfl)
theorem dJ3_init_2_27 : decode cJ3_init_2 27 = .ok (.pop, 1) := dk_87 (dk_at dksJ3_init_2_1 3 rfl rfl)
theorem dJ3_init_2_28 : decode cJ3_init_2 28 = .ok (.return_, 1) := dk_177 (dk_at dksJ3_init_2_1 4 rfl rfl)
abbrev cJ3_init_3 : ByteArray := prog_40_method_3_code
def yJ3_init_3 : MethodName := ⟨RJ3, "<init>", "(Ljava/lang/String;Ljava/lang/Throwable;)V"⟩
def dkwJ3_init_3_1 : List UInt8 := [182, 0, 27, 87, 42, 43, 181, 0, 31, 42, 44, 181, 0, 7, 177]
abbrev dktJ3_init_3_1 : List UInt8 := dkwJ3_init_3_1 ++ []
def dkwJ3_init_3_0 : List UInt8 := [42, 183, 0, 1, 42, 42, 181, 0, 7, 42, 178, 0, 13, 181, 0, 17, 42, 178, 0, 20, 181, 0, 24, 42]
abbrev dktJ3_init_3_0 : List UInt8 := dkwJ3_init_3_0 ++ dktJ3_init_3_1
theorem dksJ3_init_3_0 : cJ3_init_3.data.toList.drop 0 = dktJ3_init_3_0 := by decide +kernel
theorem dksJ3_init_3_1 : cJ3_init_3.data.toList.drop 24 = dktJ3_init_3_1 := dk_seg dksJ3_init_3_0 24 rfl rfl
theorem dJ3_init_3_0 : decode cJ3_init_3 0 = .ok (.aload_n 0, 1) := dk_42 (dk_at dksJ3_init_3_0 0 rfl rfl)
theorem dJ3_init_3_1 : decode cJ3_init_3 1 = .ok (.invokespecial 1, 3) := dk_183 0 1 (dk_at dksJ3_init_3_0 1 rfl rfl)
theorem dJ3_init_3_4 : decode cJ3_init_3 4 = .ok (.aload_n 0, 1) := dk_42 (dk_at dksJ3_init_3_0 4 rfl rfl)
theorem dJ3_init_3_5 : decode cJ3_init_3 5 = .ok (.aload_n 0, 1) := dk_42 (dk_at dksJ3_init_3_0 5 rfl rfl)
theorem dJ3_init_3_6 : decode cJ3_init_3 6 = .ok (.putfield 7, 3) := dk_181 0 7 (dk_at dksJ3_init_3_0 6 rfl rfl)
theorem dJ3_init_3_9 : decode cJ3_init_3 9 = .ok (.aload_n 0, 1) := dk_42 (dk_at dksJ3_init_3_0 9 rfl rfl)
theorem dJ3_init_3_10 : decode cJ3_init_3 10 = .ok (.getstatic 13, 3) := dk_178 0 13 (dk_at dksJ3_init_3_0 10 rfl rfl)
theorem dJ3_init_3_13 : decode cJ3_init_3 13 = .ok (.putfield 17, 3) := dk_181 0 17 (dk_at dksJ3_init_3_0 13 rfl rfl)
theorem dJ3_init_3_16 : decode cJ3_init_3 16 = .ok (.aload_n 0, 1) := dk_42 (dk_at dksJ3_init_3_0 16 rfl rfl)
theorem dJ3_init_3_17 : decode cJ3_init_3 17 = .ok (.getstatic 20, 3) := dk_178 0 20 (dk_at dksJ3_init_3_0 17 rfl rfl)
theorem dJ3_init_3_20 : decode cJ3_init_3 20 = .ok (.putfield 24, 3) := dk_181 0 24 (dk_at dksJ3_init_3_0 20 rfl rfl)
theorem dJ3_init_3_23 : decode cJ3_init_3 23 = .ok (.aload_n 0, 1) := dk_42 (dk_at dksJ3_init_3_0 23 rfl rfl)
theorem dJ3_init_3_24 : decode cJ3_init_3 24 = .ok (.invokevirtual 27, 3) := dk_182 0 27 (dk_at dksJ3_init_3_1 0 rfl rfl)
theorem dJ3_init_3_27 : decode cJ3_init_3 27 = .ok (.pop, 1) := dk_87 (dk_at dksJ3_init_3_1 3 rfl rfl)
theorem dJ3_init_3_28 : decode cJ3_init_3 28 = .ok (.aload_n 0, 1) := dk_42 (dk_at dksJ3_init_3_1 4 rfl rfl)
theorem dJ3_init_3_29 : decode cJ3_init_3 29 = .ok (.aload_n 1, 1) := dk_43 (dk_at dksJ3_init_3_1 5 rfl rfl)
theorem dJ3_init_3_30 : decode cJ3_init_3 30 = .ok (.putfield 31, 3) := dk_181 0 31 (dk_at dksJ3_init_3_1 6 rfl rfl)
theorem dJ3_init_3_33 : decode cJ3_init_3 33 = .ok (.aload_n 0, 1) := dk_42 (dk_at dksJ3_init_3_1 9 rfl rfl)
theorem dJ3_init_3_34 : decode cJ3_init_3 34 = .ok (.aload_n 2, 1) := dk_44 (dk_at dksJ3_init_3_1 10 rfl rfl)
theorem dJ3_init_3_35 : decode cJ3_init_3 35 = .ok (.putfield 7, 3) := dk_181 0 7 (dk_at dksJ3_init_3_1 11 rfl rfl)
theorem dJ3_init_3_38 : decode cJ3_init_3 38 = .ok (.return_, 1) := dk_177 (dk_at dksJ3_init_3_1 14 rfl rfl)
theorem q96 : (Jvm.Cond.initialized "java/lang/Throwable") ∈ lw_all := lw_g (lw_at lw_m1 12 rfl) rfl
theorem q419 : (Jvm.Cond.instanceMethod ({ cls := "java/lang/Throwable", name := "<init>", desc := "(Ljava/lang/String;)V" } : Jvm.MethodName)) ∈ lw_all := lw_g (lw_at lw_m2 95 rfl) rfl
theorem q420 : (Jvm.Cond.code ({ cls := "java/lang/Throwable", name := "<init>", desc := "(Ljava/lang/String;)V" } : Jvm.MethodName) prog_40_method_2_code (2 : Nat) (Option.none : Option Jvm.ClassFile.FieldType)) ∈ lw_all := lw_g (lw_at lw_m2 96 rfl) rfl
theorem q421 : (Jvm.Cond.methodLink "java/lang/Throwable" (1 : Nat) ({ cls := "java/lang/Object", name := "<init>", desc := "()V" } : Jvm.MethodName)) ∈ lw_all := lw_g (lw_at lw_m2 97 rfl) rfl
theorem q422 : (Jvm.Cond.fieldLink "java/lang/Throwable" (13 : Nat) "java/lang/Throwable" "UNASSIGNED_STACK" "[Ljava/lang/StackTraceElement;") ∈ lw_all := lw_g (lw_at lw_m2 98 rfl) rfl
theorem q423 : (Jvm.Cond.laysStatic "java/lang/Throwable" "UNASSIGNED_STACK" "[Ljava/lang/StackTraceElement;") ∈ lw_tbl := lw_at lw_m2 99 rfl
theorem q424 : (Jvm.Cond.fieldLink "java/lang/Throwable" (20 : Nat) "java/lang/Throwable" "SUPPRESSED_SENTINEL" "Ljava/util/List;") ∈ lw_all := lw_g (lw_at lw_m2 100 rfl) rfl
theorem q425 : (Jvm.Cond.laysStatic "java/lang/Throwable" "SUPPRESSED_SENTINEL" "Ljava/util/List;") ∈ lw_tbl := lw_at lw_m2 101 rfl
theorem q426 : (Jvm.Cond.methodLink "java/lang/Throwable" (27 : Nat) ({ cls := "java/lang/Throwable", name := "fillInStackTrace", desc := "()Ljava/lang/Throwable;" } : Jvm.MethodName)) ∈ lw_all := lw_g (lw_at lw_m2 102 rfl) rfl
theorem q427 : (Jvm.Cond.instanceMethod ({ cls := "java/lang/Throwable", name := "fillInStackTrace", desc := "()Ljava/lang/Throwable;" } : Jvm.MethodName)) ∈ lw_all := lw_g (lw_at lw_m2 103 rfl) rfl
theorem q428 : (Jvm.Cond.sameMethod "java/lang/Throwable" "java/lang/Throwable" "fillInStackTrace" "()Ljava/lang/Throwable;") ∈ lw_all := lw_g (lw_at lw_m2 104 rfl) rfl
theorem q435 : (Jvm.Cond.codeSync ({ cls := "java/lang/Throwable", name := "fillInStackTrace", desc := "()Ljava/lang/Throwable;" } : Jvm.MethodName) prog_40_method_18_code (1 : Nat) (Option.some (Jvm.ClassFile.FieldType.object "java/lang/Throwable"))) ∈ lw_all := lw_g (lw_at lw_m2 111 rfl) rfl
theorem q436 : (Jvm.Cond.methodLink "java/lang/Throwable" (202 : Nat) ({ cls := "java/lang/Throwable", name := "fillInStackTrace", desc := "(I)Ljava/lang/Throwable;" } : Jvm.MethodName)) ∈ lw_all := lw_g (lw_at lw_m2 112 rfl) rfl
theorem q437 : (Jvm.Cond.privateMethod ({ cls := "java/lang/Throwable", name := "fillInStackTrace", desc := "(I)Ljava/lang/Throwable;" } : Jvm.MethodName)) ∈ lw_tbl := lw_at lw_m2 113 rfl
theorem q438 : (Jvm.Cond.instanceMethod ({ cls := "java/lang/Throwable", name := "fillInStackTrace", desc := "(I)Ljava/lang/Throwable;" } : Jvm.MethodName)) ∈ lw_all := lw_g (lw_at lw_m2 114 rfl) rfl
theorem q439 : (Jvm.Cond.instantiable "java/lang/Throwable" (6 : Nat)) ∈ lw_all := lw_g (lw_at lw_m2 115 rfl) rfl
theorem q440 : (Jvm.Cond.native ({ cls := "java/lang/Throwable", name := "fillInStackTrace", desc := "(I)Ljava/lang/Throwable;" } : Jvm.MethodName)) ∈ lw_all := lw_g (lw_at lw_m2 116 rfl) rfl
theorem q441 : (Jvm.Cond.fieldLink "java/lang/Throwable" (198 : Nat) "java/lang/Throwable" "backtrace" "Ljava/lang/Object;") ∈ lw_all := lw_g (lw_at lw_m2 117 rfl) rfl
theorem q442 : (Jvm.Cond.fieldLink "java/lang/Throwable" (31 : Nat) "java/lang/Throwable" "detailMessage" "Ljava/lang/String;") ∈ lw_all := lw_g (lw_at lw_m2 118 rfl) rfl
theorem q443 : (Jvm.Cond.fieldLink "java/lang/Throwable" (7 : Nat) "java/lang/Throwable" "cause" "Ljava/lang/Throwable;") ∈ lw_all := lw_g (lw_at lw_m2 119 rfl) rfl
theorem q444 : (Jvm.Cond.fieldLink "java/lang/Throwable" (17 : Nat) "java/lang/Throwable" "stackTrace" "[Ljava/lang/StackTraceElement;") ∈ lw_all := lw_g (lw_at lw_m2 120 rfl) rfl
theorem q445 : (Jvm.Cond.fieldLink "java/lang/Throwable" (24 : Nat) "java/lang/Throwable" "suppressedExceptions" "Ljava/util/List;") ∈ lw_all := lw_g (lw_at lw_m2 121 rfl) rfl
theorem q447 : (Jvm.Cond.soleField "java/lang/Throwable" "backtrace") ∈ lw_all := lw_g (lw_at lw_m2 123 rfl) rfl
theorem q449 : (Jvm.Cond.soleField "java/lang/Throwable" "detailMessage") ∈ lw_all := lw_g (lw_at lw_m2 125 rfl) rfl
theorem q451 : (Jvm.Cond.soleField "java/lang/Throwable" "cause") ∈ lw_all := lw_g (lw_at lw_m2 127 rfl) rfl
theorem q453 : (Jvm.Cond.soleField "java/lang/Throwable" "stackTrace") ∈ lw_all := lw_g (lw_at lw_m2 129 rfl) rfl
theorem q455 : (Jvm.Cond.soleField "java/lang/Throwable" "depth") ∈ lw_all := lw_g (lw_at lw_m2 131 rfl) rfl
theorem q457 : (Jvm.Cond.soleField "java/lang/Throwable" "suppressedExceptions") ∈ lw_all := lw_g (lw_at lw_m2 133 rfl) rfl
theorem q466 : (Jvm.Cond.declares ({ cls := "java/lang/Throwable", name := "<init>", desc := "()V" } : Jvm.MethodName)) ∈ lw_tbl := lw_at lw_m2 142 rfl
theorem q467 : (Jvm.Cond.declares ({ cls := "java/lang/Throwable", name := "<init>", desc := "(Ljava/lang/String;)V" } : Jvm.MethodName)) ∈ lw_tbl := lw_at lw_m2 143 rfl
theorem q469 : (Jvm.Cond.lays "java/lang/Throwable" "java/lang/Throwable" "cause" "Ljava/lang/Throwable;") ∈ lw_all := lw_g (lw_at lw_m2 145 rfl) rfl
theorem q470 : (Jvm.Cond.lays "java/lang/Throwable" "java/lang/Throwable" "stackTrace" "[Ljava/lang/StackTraceElement;") ∈ lw_all := lw_g (lw_at lw_m2 146 rfl) rfl
theorem q471 : (Jvm.Cond.lays "java/lang/Throwable" "java/lang/Throwable" "suppressedExceptions" "Ljava/util/List;") ∈ lw_all := lw_g (lw_at lw_m2 147 rfl) rfl
theorem q472 : (Jvm.Cond.lays "java/lang/Throwable" "java/lang/Throwable" "detailMessage" "Ljava/lang/String;") ∈ lw_all := lw_g (lw_at lw_m2 148 rfl) rfl
theorem q473 : (Jvm.Cond.lays "java/lang/Throwable" "java/lang/Throwable" "backtrace" "Ljava/lang/Object;") ∈ lw_all := lw_g (lw_at lw_m2 149 rfl) rfl
theorem q474 : (Jvm.Cond.fieldLink "java/lang/Throwable" (198 : Nat) "java/lang/Throwable" "backtrace" "Ljava/lang/Object;") ∈ lw_all := lw_g (lw_at lw_m2 150 rfl) rfl
theorem q475 : (Jvm.Cond.superclass "java/lang/Throwable" "java/lang/Object") ∈ lw_all := lw_g (lw_at lw_m2 151 rfl) rfl
theorem q476 : (Jvm.Cond.instanceMethod ({ cls := "java/lang/Throwable", name := "<init>", desc := "()V" } : Jvm.MethodName)) ∈ lw_all := lw_g (lw_at lw_m2 152 rfl) rfl
theorem q477 : (Jvm.Cond.code ({ cls := "java/lang/Throwable", name := "<init>", desc := "()V" } : Jvm.MethodName) prog_40_method_1_code (1 : Nat) (Option.none : Option Jvm.ClassFile.FieldType)) ∈ lw_all := lw_g (lw_at lw_m2 153 rfl) rfl
theorem q1445 : (Jvm.Cond.instanceMethod ({ cls := "java/lang/Throwable", name := "<init>", desc := "(Ljava/lang/String;Ljava/lang/Throwable;)V" } : Jvm.MethodName)) ∈ lw_all := lw_g (lw_at lw_m6 161 rfl) rfl
theorem q1446 : (Jvm.Cond.code ({ cls := "java/lang/Throwable", name := "<init>", desc := "(Ljava/lang/String;Ljava/lang/Throwable;)V" } : Jvm.MethodName) prog_40_method_3_code (3 : Nat) (Option.none : Option Jvm.ClassFile.FieldType)) ∈ lw_all := lw_g (lw_at lw_m6 162 rfl) rfl
theorem q2322 : (Jvm.Cond.sameMethod "java/lang/Throwable" "java/lang/Throwable" "fillInStackTrace" "(I)Ljava/lang/Throwable;") ∈ lw_all := lw_g (lw_at lw_m10 78 rfl) rfl
theorem q2360 : (Jvm.Cond.castable "java/lang/Throwable" "java/lang/Object") ∈ lw_tbl := lw_at lw_m10 116 rfl
theorem in_J3 : ∀ w ∈ wsJ30, w ∈ lw_all := lw_in wsJ30 [469, 470, 471, 472, 473] (by decide +kernel) (by decide +kernel)
/-! java/lang/Exception -/
set_option maxRecDepth 100000
def RJ4 : String := "java/lang/Exception"
abbrev cJ4_init : ByteArray := prog_25_method_2_code
def yJ4_init : MethodName := ⟨RJ4, "<init>", "(Ljava/lang/String;)V"⟩
def dkwJ4_init_0 : List UInt8 := [42, 43, 183, 0, 7, 177]
abbrev dktJ4_init_0 : List UInt8 := dkwJ4_init_0 ++ []
theorem dksJ4_init_0 : cJ4_init.data.toList.drop 0 = dktJ4_init_0 := by decide +kernel
theorem dJ4_init_0 : decode cJ4_init 0 = .ok (.aload_n 0, 1) := dk_42 (dk_at dksJ4_init_0 0 rfl rfl)
theorem dJ4_init_1 : decode cJ4_init 1 = .ok (.aload_n 1, 1) := dk_43 (dk_at dksJ4_init_0 1 rfl rfl)
theorem dJ4_init_2 : decode cJ4_init 2 = .ok (.invokespecial 7, 3) := dk_183 0 7 (dk_at dksJ4_init_0 2 rfl rfl)
theorem dJ4_init_5 : decode cJ4_init 5 = .ok (.return_, 1) := dk_177 (dk_at dksJ4_init_0 5 rfl rfl)
abbrev cJ4_init_2 : ByteArray := prog_25_method_3_code
def yJ4_init_2 : MethodName := ⟨RJ4, "<init>", "(Ljava/lang/String;Ljava/lang/Throwable;)V"⟩
def dkwJ4_init_2_0 : List UInt8 := [42, 43, 44, 183, 0, 10, 177]
abbrev dktJ4_init_2_0 : List UInt8 := dkwJ4_init_2_0 ++ []
theorem dksJ4_init_2_0 : cJ4_init_2.data.toList.drop 0 = dktJ4_init_2_0 := by decide +kernel
theorem dJ4_init_2_0 : decode cJ4_init_2 0 = .ok (.aload_n 0, 1) := dk_42 (dk_at dksJ4_init_2_0 0 rfl rfl)
theorem dJ4_init_2_1 : decode cJ4_init_2 1 = .ok (.aload_n 1, 1) := dk_43 (dk_at dksJ4_init_2_0 1 rfl rfl)
theorem dJ4_init_2_2 : decode cJ4_init_2 2 = .ok (.aload_n 2, 1) := dk_44 (dk_at dksJ4_init_2_0 2 rfl rfl)
theorem dJ4_init_2_3 : decode cJ4_init_2 3 = .ok (.invokespecial 10, 3) := dk_183 0 10 (dk_at dksJ4_init_2_0 3 rfl rfl)
theorem dJ4_init_2_6 : decode cJ4_init_2 6 = .ok (.return_, 1) := dk_177 (dk_at dksJ4_init_2_0 6 rfl rfl)
theorem q97 : (Jvm.Cond.initialized "java/lang/Exception") ∈ lw_all := lw_g (lw_at lw_m1 13 rfl) rfl
theorem q416 : (Jvm.Cond.instanceMethod ({ cls := "java/lang/Exception", name := "<init>", desc := "(Ljava/lang/String;)V" } : Jvm.MethodName)) ∈ lw_all := lw_g (lw_at lw_m2 92 rfl) rfl
theorem q417 : (Jvm.Cond.code ({ cls := "java/lang/Exception", name := "<init>", desc := "(Ljava/lang/String;)V" } : Jvm.MethodName) prog_25_method_2_code (2 : Nat) (Option.none : Option Jvm.ClassFile.FieldType)) ∈ lw_all := lw_g (lw_at lw_m2 93 rfl) rfl
theorem q418 : (Jvm.Cond.methodLink "java/lang/Exception" (7 : Nat) ({ cls := "java/lang/Throwable", name := "<init>", desc := "(Ljava/lang/String;)V" } : Jvm.MethodName)) ∈ lw_all := lw_g (lw_at lw_m2 94 rfl) rfl
theorem q464 : (Jvm.Cond.declares ({ cls := "java/lang/Exception", name := "<init>", desc := "()V" } : Jvm.MethodName)) ∈ lw_tbl := lw_at lw_m2 140 rfl
theorem q465 : (Jvm.Cond.declares ({ cls := "java/lang/Exception", name := "<init>", desc := "(Ljava/lang/String;)V" } : Jvm.MethodName)) ∈ lw_tbl := lw_at lw_m2 141 rfl
theorem q1442 : (Jvm.Cond.instanceMethod ({ cls := "java/lang/Exception", name := "<init>", desc := "(Ljava/lang/String;Ljava/lang/Throwable;)V" } : Jvm.MethodName)) ∈ lw_all := lw_g (lw_at lw_m6 158 rfl) rfl
theorem q1443 : (Jvm.Cond.code ({ cls := "java/lang/Exception", name := "<init>", desc := "(Ljava/lang/String;Ljava/lang/Throwable;)V" } : Jvm.MethodName) prog_25_method_3_code (3 : Nat) (Option.none : Option Jvm.ClassFile.FieldType)) ∈ lw_all := lw_g (lw_at lw_m6 159 rfl) rfl
theorem q1444 : (Jvm.Cond.methodLink "java/lang/Exception" (10 : Nat) ({ cls := "java/lang/Throwable", name := "<init>", desc := "(Ljava/lang/String;Ljava/lang/Throwable;)V" } : Jvm.MethodName)) ∈ lw_all := lw_g (lw_at lw_m6 160 rfl) rfl
/-! java/lang/RuntimeException -/
set_option maxRecDepth 100000
def RJ5 : String := "java/lang/RuntimeException"
abbrev cJ5_init : ByteArray := prog_34_method_2_code
def yJ5_init : MethodName := ⟨RJ5, "<init>", "(Ljava/lang/String;)V"⟩
def dkwJ5_init_0 : List UInt8 := [42, 43, 183, 0, 7, 177]
abbrev dktJ5_init_0 : List UInt8 := dkwJ5_init_0 ++ []
theorem dksJ5_init_0 : cJ5_init.data.toList.drop 0 = dktJ5_init_0 := by decide +kernel
theorem dJ5_init_0 : decode cJ5_init 0 = .ok (.aload_n 0, 1) := dk_42 (dk_at dksJ5_init_0 0 rfl rfl)
theorem dJ5_init_1 : decode cJ5_init 1 = .ok (.aload_n 1, 1) := dk_43 (dk_at dksJ5_init_0 1 rfl rfl)
theorem dJ5_init_2 : decode cJ5_init 2 = .ok (.invokespecial 7, 3) := dk_183 0 7 (dk_at dksJ5_init_0 2 rfl rfl)
theorem dJ5_init_5 : decode cJ5_init 5 = .ok (.return_, 1) := dk_177 (dk_at dksJ5_init_0 5 rfl rfl)
theorem q98 : (Jvm.Cond.initialized "java/lang/RuntimeException") ∈ lw_all := lw_g (lw_at lw_m1 14 rfl) rfl
theorem q413 : (Jvm.Cond.instanceMethod ({ cls := "java/lang/RuntimeException", name := "<init>", desc := "(Ljava/lang/String;)V" } : Jvm.MethodName)) ∈ lw_all := lw_g (lw_at lw_m2 89 rfl) rfl
theorem q414 : (Jvm.Cond.code ({ cls := "java/lang/RuntimeException", name := "<init>", desc := "(Ljava/lang/String;)V" } : Jvm.MethodName) prog_34_method_2_code (2 : Nat) (Option.none : Option Jvm.ClassFile.FieldType)) ∈ lw_all := lw_g (lw_at lw_m2 90 rfl) rfl
theorem q415 : (Jvm.Cond.methodLink "java/lang/RuntimeException" (7 : Nat) ({ cls := "java/lang/Exception", name := "<init>", desc := "(Ljava/lang/String;)V" } : Jvm.MethodName)) ∈ lw_all := lw_g (lw_at lw_m2 91 rfl) rfl
theorem q462 : (Jvm.Cond.declares ({ cls := "java/lang/RuntimeException", name := "<init>", desc := "()V" } : Jvm.MethodName)) ∈ lw_tbl := lw_at lw_m2 138 rfl
theorem q463 : (Jvm.Cond.declares ({ cls := "java/lang/RuntimeException", name := "<init>", desc := "(Ljava/lang/String;)V" } : Jvm.MethodName)) ∈ lw_tbl := lw_at lw_m2 139 rfl
/-! java/lang/IndexOutOfBoundsException -/
set_option maxRecDepth 100000
def RJ6 : String := "java/lang/IndexOutOfBoundsException"
def TJ6 : u_T := fun k => match k with
  | 0 => ("java/lang/Throwable", "cause", "Ljava/lang/Throwable;", false)
  | 1 => ("java/lang/Throwable", "stackTrace", "[Ljava/lang/StackTraceElement;", false)
  | 2 => ("java/lang/Throwable", "suppressedExceptions", "Ljava/util/List;", false)
  | 3 => ("java/lang/Throwable", "detailMessage", "Ljava/lang/String;", false)
  | 4 => ("java/lang/Throwable", "backtrace", "Ljava/lang/Object;", false)
  | _ => ("java/lang/Throwable", "depth", "I", false)
def tyJ6 : Nat → FieldType := fun k => match k with
  | 0 => .object "java/lang/Throwable"
  | 1 => .array (.object "java/lang/StackTraceElement")
  | 2 => .object "java/util/List"
  | 3 => .object "java/lang/String"
  | 4 => .object "java/lang/Object"
  | _ => .int
abbrev wsJ60 : List Cond := u_ws RJ6 TJ6 6
theorem nmJ6 : ∀ a, a < 6 → ∀ b, b < 6 → a ≠ b → (TJ6 a).2.1 ≠ (TJ6 b).2.1 := by decide +kernel
theorem tyJ6_ok : ∀ k, k < 6 → parseFieldDescriptor (TJ6 k).2.2.1 = some (tyJ6 k) := by decide +kernel
abbrev cJ6_init : ByteArray := prog_28_method_2_code
def yJ6_init : MethodName := ⟨RJ6, "<init>", "(Ljava/lang/String;)V"⟩
def dkwJ6_init_0 : List UInt8 := [42, 43, 183, 0, 7, 177]
abbrev dktJ6_init_0 : List UInt8 := dkwJ6_init_0 ++ []
theorem dksJ6_init_0 : cJ6_init.data.toList.drop 0 = dktJ6_init_0 := by decide +kernel
theorem dJ6_init_0 : decode cJ6_init 0 = .ok (.aload_n 0, 1) := dk_42 (dk_at dksJ6_init_0 0 rfl rfl)
theorem dJ6_init_1 : decode cJ6_init 1 = .ok (.aload_n 1, 1) := dk_43 (dk_at dksJ6_init_0 1 rfl rfl)
theorem dJ6_init_2 : decode cJ6_init 2 = .ok (.invokespecial 7, 3) := dk_183 0 7 (dk_at dksJ6_init_0 2 rfl rfl)
theorem dJ6_init_5 : decode cJ6_init 5 = .ok (.return_, 1) := dk_177 (dk_at dksJ6_init_0 5 rfl rfl)
theorem q99 : (Jvm.Cond.initialized "java/lang/IndexOutOfBoundsException") ∈ lw_all := lw_g (lw_at lw_m1 15 rfl) rfl
theorem q410 : (Jvm.Cond.instanceMethod ({ cls := "java/lang/IndexOutOfBoundsException", name := "<init>", desc := "(Ljava/lang/String;)V" } : Jvm.MethodName)) ∈ lw_all := lw_g (lw_at lw_m2 86 rfl) rfl
theorem q411 : (Jvm.Cond.code ({ cls := "java/lang/IndexOutOfBoundsException", name := "<init>", desc := "(Ljava/lang/String;)V" } : Jvm.MethodName) prog_28_method_2_code (2 : Nat) (Option.none : Option Jvm.ClassFile.FieldType)) ∈ lw_all := lw_g (lw_at lw_m2 87 rfl) rfl
theorem q412 : (Jvm.Cond.methodLink "java/lang/IndexOutOfBoundsException" (7 : Nat) ({ cls := "java/lang/RuntimeException", name := "<init>", desc := "(Ljava/lang/String;)V" } : Jvm.MethodName)) ∈ lw_all := lw_g (lw_at lw_m2 88 rfl) rfl
theorem q434 : (Jvm.Cond.selects "java/lang/IndexOutOfBoundsException" ({ cls := "java/lang/Throwable", name := "fillInStackTrace", desc := "()Ljava/lang/Throwable;" } : Jvm.MethodName) ({ cls := "java/lang/Throwable", name := "fillInStackTrace", desc := "()Ljava/lang/Throwable;" } : Jvm.MethodName)) ∈ lw_all := lw_g (lw_at lw_m2 110 rfl) rfl
theorem q460 : (Jvm.Cond.declares ({ cls := "java/lang/IndexOutOfBoundsException", name := "<init>", desc := "()V" } : Jvm.MethodName)) ∈ lw_tbl := lw_at lw_m2 136 rfl
theorem q461 : (Jvm.Cond.declares ({ cls := "java/lang/IndexOutOfBoundsException", name := "<init>", desc := "(Ljava/lang/String;)V" } : Jvm.MethodName)) ∈ lw_tbl := lw_at lw_m2 137 rfl
theorem q498 : (Jvm.Cond.instantiable "java/lang/IndexOutOfBoundsException" (6 : Nat)) ∈ lw_all := lw_g (lw_at lw_m2 174 rfl) rfl
theorem q499 : (Jvm.Cond.castable "java/lang/IndexOutOfBoundsException" "java/lang/IndexOutOfBoundsException") ∈ lw_tbl := lw_at lw_m2 175 rfl
theorem q500 : (Jvm.Cond.selects "java/lang/IndexOutOfBoundsException" ({ cls := "java/lang/Throwable", name := "fillInStackTrace", desc := "(I)Ljava/lang/Throwable;" } : Jvm.MethodName) ({ cls := "java/lang/Throwable", name := "fillInStackTrace", desc := "(I)Ljava/lang/Throwable;" } : Jvm.MethodName)) ∈ lw_all := lw_g (lw_at lw_m2 176 rfl) rfl
theorem q501 : (Jvm.Cond.lays "java/lang/IndexOutOfBoundsException" "java/lang/Throwable" "cause" "Ljava/lang/Throwable;") ∈ lw_all := lw_g (lw_at lw_m2 177 rfl) rfl
theorem q502 : (Jvm.Cond.lays "java/lang/IndexOutOfBoundsException" "java/lang/Throwable" "stackTrace" "[Ljava/lang/StackTraceElement;") ∈ lw_all := lw_g (lw_at lw_m2 178 rfl) rfl
theorem q503 : (Jvm.Cond.lays "java/lang/IndexOutOfBoundsException" "java/lang/Throwable" "suppressedExceptions" "Ljava/util/List;") ∈ lw_all := lw_g (lw_at lw_m2 179 rfl) rfl
theorem q504 : (Jvm.Cond.lays "java/lang/IndexOutOfBoundsException" "java/lang/Throwable" "detailMessage" "Ljava/lang/String;") ∈ lw_all := lw_g (lw_at lw_m2 180 rfl) rfl
theorem q505 : (Jvm.Cond.lays "java/lang/IndexOutOfBoundsException" "java/lang/Throwable" "backtrace" "Ljava/lang/Object;") ∈ lw_all := lw_g (lw_at lw_m2 181 rfl) rfl
theorem q508 : (Jvm.Cond.lays "java/lang/IndexOutOfBoundsException" "java/lang/Throwable" "depth" "I") ∈ lw_all := lw_g (lw_at lw_m2 184 rfl) rfl
theorem q509 : (Jvm.Cond.superclass "java/lang/IndexOutOfBoundsException" "java/lang/RuntimeException") ∈ lw_all := lw_g (lw_at lw_m2 185 rfl) rfl
theorem q943 : (Jvm.Cond.selects "java/lang/IndexOutOfBoundsException" ({ cls := "java/lang/Object", name := "getClass", desc := "()Ljava/lang/Class;" } : Jvm.MethodName) ({ cls := "java/lang/Object", name := "getClass", desc := "()Ljava/lang/Class;" } : Jvm.MethodName)) ∈ lw_all := lw_g (lw_at lw_m4 139 rfl) rfl
theorem q2346 : (Jvm.Cond.castable "java/lang/IndexOutOfBoundsException" "java/lang/Object") ∈ lw_tbl := lw_at lw_m10 102 rfl
theorem in_J6 : ∀ w ∈ wsJ60, w ∈ lw_all := lw_in wsJ60 [501, 502, 503, 504, 505, 508] (by decide +kernel) (by decide +kernel)
/-! java/lang/ArrayIndexOutOfBoundsException -/
set_option maxRecDepth 100000
def RJ7 : String := "java/lang/ArrayIndexOutOfBoundsException"
def TJ7 : u_T := fun k => match k with
  | 0 => ("java/lang/Throwable", "backtrace", "Ljava/lang/Object;", false)
  | 1 => ("java/lang/Throwable", "detailMessage", "Ljava/lang/String;", false)
  | 2 => ("java/lang/Throwable", "cause", "Ljava/lang/Throwable;", false)
  | 3 => ("java/lang/Throwable", "stackTrace", "[Ljava/lang/StackTraceElement;", false)
  | 4 => ("java/lang/Throwable", "depth", "I", false)
  | _ => ("java/lang/Throwable", "suppressedExceptions", "Ljava/util/List;", false)
def tyJ7 : Nat → FieldType := fun k => match k with
  | 0 => .object "java/lang/Object"
  | 1 => .object "java/lang/String"
  | 2 => .object "java/lang/Throwable"
  | 3 => .array (.object "java/lang/StackTraceElement")
  | 4 => .int
  | _ => .object "java/util/List"
abbrev wsJ70 : List Cond := u_ws RJ7 TJ7 6
theorem nmJ7 : ∀ a, a < 6 → ∀ b, b < 6 → a ≠ b → (TJ7 a).2.1 ≠ (TJ7 b).2.1 := by decide +kernel
theorem tyJ7_ok : ∀ k, k < 6 → parseFieldDescriptor (TJ7 k).2.2.1 = some (tyJ7 k) := by decide +kernel
abbrev cJ7_init : ByteArray := prog_23_method_2_code
def yJ7_init : MethodName := ⟨RJ7, "<init>", "(Ljava/lang/String;)V"⟩
def dkwJ7_init_0 : List UInt8 := [42, 43, 183, 0, 7, 177]
abbrev dktJ7_init_0 : List UInt8 := dkwJ7_init_0 ++ []
theorem dksJ7_init_0 : cJ7_init.data.toList.drop 0 = dktJ7_init_0 := by decide +kernel
theorem dJ7_init_0 : decode cJ7_init 0 = .ok (.aload_n 0, 1) := dk_42 (dk_at dksJ7_init_0 0 rfl rfl)
theorem dJ7_init_1 : decode cJ7_init 1 = .ok (.aload_n 1, 1) := dk_43 (dk_at dksJ7_init_0 1 rfl rfl)
theorem dJ7_init_2 : decode cJ7_init 2 = .ok (.invokespecial 7, 3) := dk_183 0 7 (dk_at dksJ7_init_0 2 rfl rfl)
theorem dJ7_init_5 : decode cJ7_init 5 = .ok (.return_, 1) := dk_177 (dk_at dksJ7_init_0 5 rfl rfl)
theorem q100 : (Jvm.Cond.initialized "java/lang/ArrayIndexOutOfBoundsException") ∈ lw_all := lw_g (lw_at lw_m1 16 rfl) rfl
theorem q406 : (Jvm.Cond.instantiable "java/lang/ArrayIndexOutOfBoundsException" (6 : Nat)) ∈ lw_all := lw_g (lw_at lw_m2 82 rfl) rfl
theorem q407 : (Jvm.Cond.instanceMethod ({ cls := "java/lang/ArrayIndexOutOfBoundsException", name := "<init>", desc := "(Ljava/lang/String;)V" } : Jvm.MethodName)) ∈ lw_all := lw_g (lw_at lw_m2 83 rfl) rfl
theorem q408 : (Jvm.Cond.code ({ cls := "java/lang/ArrayIndexOutOfBoundsException", name := "<init>", desc := "(Ljava/lang/String;)V" } : Jvm.MethodName) prog_23_method_2_code (2 : Nat) (Option.none : Option Jvm.ClassFile.FieldType)) ∈ lw_all := lw_g (lw_at lw_m2 84 rfl) rfl
theorem q409 : (Jvm.Cond.methodLink "java/lang/ArrayIndexOutOfBoundsException" (7 : Nat) ({ cls := "java/lang/IndexOutOfBoundsException", name := "<init>", desc := "(Ljava/lang/String;)V" } : Jvm.MethodName)) ∈ lw_all := lw_g (lw_at lw_m2 85 rfl) rfl
theorem q431 : (Jvm.Cond.selects "java/lang/ArrayIndexOutOfBoundsException" ({ cls := "java/lang/Throwable", name := "fillInStackTrace", desc := "()Ljava/lang/Throwable;" } : Jvm.MethodName) ({ cls := "java/lang/Throwable", name := "fillInStackTrace", desc := "()Ljava/lang/Throwable;" } : Jvm.MethodName)) ∈ lw_all := lw_g (lw_at lw_m2 107 rfl) rfl
theorem q446 : (Jvm.Cond.lays "java/lang/ArrayIndexOutOfBoundsException" "java/lang/Throwable" "backtrace" "Ljava/lang/Object;") ∈ lw_all := lw_g (lw_at lw_m2 122 rfl) rfl
theorem q448 : (Jvm.Cond.lays "java/lang/ArrayIndexOutOfBoundsException" "java/lang/Throwable" "detailMessage" "Ljava/lang/String;") ∈ lw_all := lw_g (lw_at lw_m2 124 rfl) rfl
theorem q450 : (Jvm.Cond.lays "java/lang/ArrayIndexOutOfBoundsException" "java/lang/Throwable" "cause" "Ljava/lang/Throwable;") ∈ lw_all := lw_g (lw_at lw_m2 126 rfl) rfl
theorem q452 : (Jvm.Cond.lays "java/lang/ArrayIndexOutOfBoundsException" "java/lang/Throwable" "stackTrace" "[Ljava/lang/StackTraceElement;") ∈ lw_all := lw_g (lw_at lw_m2 128 rfl) rfl
theorem q454 : (Jvm.Cond.lays "java/lang/ArrayIndexOutOfBoundsException" "java/lang/Throwable" "depth" "I") ∈ lw_all := lw_g (lw_at lw_m2 130 rfl) rfl
theorem q456 : (Jvm.Cond.lays "java/lang/ArrayIndexOutOfBoundsException" "java/lang/Throwable" "suppressedExceptions" "Ljava/util/List;") ∈ lw_all := lw_g (lw_at lw_m2 132 rfl) rfl
theorem q458 : (Jvm.Cond.superclass "java/lang/ArrayIndexOutOfBoundsException" "java/lang/IndexOutOfBoundsException") ∈ lw_all := lw_g (lw_at lw_m2 134 rfl) rfl
theorem q459 : (Jvm.Cond.castable "java/lang/ArrayIndexOutOfBoundsException" "java/lang/ArrayIndexOutOfBoundsException") ∈ lw_tbl := lw_at lw_m2 135 rfl
theorem q468 : (Jvm.Cond.selects "java/lang/ArrayIndexOutOfBoundsException" ({ cls := "java/lang/Throwable", name := "fillInStackTrace", desc := "(I)Ljava/lang/Throwable;" } : Jvm.MethodName) ({ cls := "java/lang/Throwable", name := "fillInStackTrace", desc := "(I)Ljava/lang/Throwable;" } : Jvm.MethodName)) ∈ lw_all := lw_g (lw_at lw_m2 144 rfl) rfl
theorem q940 : (Jvm.Cond.selects "java/lang/ArrayIndexOutOfBoundsException" ({ cls := "java/lang/Object", name := "getClass", desc := "()Ljava/lang/Class;" } : Jvm.MethodName) ({ cls := "java/lang/Object", name := "getClass", desc := "()Ljava/lang/Class;" } : Jvm.MethodName)) ∈ lw_all := lw_g (lw_at lw_m4 136 rfl) rfl
theorem q2333 : (Jvm.Cond.castable "java/lang/ArrayIndexOutOfBoundsException" "java/lang/IndexOutOfBoundsException") ∈ lw_tbl := lw_at lw_m10 89 rfl
theorem q2345 : (Jvm.Cond.castable "java/lang/ArrayIndexOutOfBoundsException" "java/lang/Object") ∈ lw_tbl := lw_at lw_m10 101 rfl
theorem in_J7 : ∀ w ∈ wsJ70, w ∈ lw_all := lw_in wsJ70 [446, 448, 450, 452, 454, 456] (by decide +kernel) (by decide +kernel)
/-! java/lang/String -/
set_option maxRecDepth 100000
def RJ8 : String := "java/lang/String"
def TJ8 : u_T := fun k => match k with
  | 0 => ("java/lang/String", "value", "[B", true)
  | 1 => ("java/lang/String", "coder", "B", true)
  | 2 => ("java/lang/String", "hash", "I", false)
  | _ => ("java/lang/String", "hashIsZero", "Z", false)
def tyJ8 : Nat → FieldType := fun k => match k with
  | 0 => .array .byte
  | 1 => .byte
  | 2 => .int
  | _ => .boolean
abbrev wsJ80 : List Cond := u_ws RJ8 TJ8 4
theorem nmJ8 : ∀ a, a < 4 → ∀ b, b < 4 → a ≠ b → (TJ8 a).2.1 ≠ (TJ8 b).2.1 := by decide +kernel
theorem tyJ8_ok : ∀ k, k < 4 → parseFieldDescriptor (TJ8 k).2.2.1 = some (tyJ8 k) := by decide +kernel
abbrev cJ8_checkBoundsBeginEnd : ByteArray := prog_35_method_158_code
def yJ8_checkBoundsBeginEnd : MethodName := ⟨RJ8, "checkBoundsBeginEnd", "(III)V"⟩
def dkwJ8_checkBoundsBeginEnd_0 : List UInt8 := [26, 27, 28, 178, 4, 29, 184, 4, 38, 87, 177]
abbrev dktJ8_checkBoundsBeginEnd_0 : List UInt8 := dkwJ8_checkBoundsBeginEnd_0 ++ []
theorem dksJ8_checkBoundsBeginEnd_0 : cJ8_checkBoundsBeginEnd.data.toList.drop 0 = dktJ8_checkBoundsBeginEnd_0 := by decide +kernel
theorem dJ8_checkBoundsBeginEnd_0 : decode cJ8_checkBoundsBeginEnd 0 = .ok (.iload_n 0, 1) := dk_26 (dk_at dksJ8_checkBoundsBeginEnd_0 0 rfl rfl)
theorem dJ8_checkBoundsBeginEnd_1 : decode cJ8_checkBoundsBeginEnd 1 = .ok (.iload_n 1, 1) := dk_27 (dk_at dksJ8_checkBoundsBeginEnd_0 1 rfl rfl)
theorem dJ8_checkBoundsBeginEnd_2 : decode cJ8_checkBoundsBeginEnd 2 = .ok (.iload_n 2, 1) := dk_28 (dk_at dksJ8_checkBoundsBeginEnd_0 2 rfl rfl)
theorem dJ8_checkBoundsBeginEnd_3 : decode cJ8_checkBoundsBeginEnd 3 = .ok (.getstatic 1053, 3) := dk_178 4 29 (dk_at dksJ8_checkBoundsBeginEnd_0 3 rfl rfl)
theorem dJ8_checkBoundsBeginEnd_6 : decode cJ8_checkBoundsBeginEnd 6 = .ok (.invokestatic 1062, 3) := dk_184 4 38 (dk_at dksJ8_checkBoundsBeginEnd_0 6 rfl rfl)
theorem dJ8_checkBoundsBeginEnd_9 : decode cJ8_checkBoundsBeginEnd 9 = .ok (.pop, 1) := dk_87 (dk_at dksJ8_checkBoundsBeginEnd_0 9 rfl rfl)
theorem dJ8_checkBoundsBeginEnd_10 : decode cJ8_checkBoundsBeginEnd 10 = .ok (.return_, 1) := dk_177 (dk_at dksJ8_checkBoundsBeginEnd_0 10 rfl rfl)
abbrev cJ8_length : ByteArray := prog_35_method_54_code
def yJ8_length : MethodName := ⟨RJ8, "length", "()I"⟩
def dkwJ8_length_0 : List UInt8 := [42, 180, 0, 9, 190, 42, 182, 1, 79, 122, 172]
abbrev dktJ8_length_0 : List UInt8 := dkwJ8_length_0 ++ []
theorem dksJ8_length_0 : cJ8_length.data.toList.drop 0 = dktJ8_length_0 := by decide +kernel
theorem dJ8_length_0 : decode cJ8_length 0 = .ok (.aload_n 0, 1) := dk_42 (dk_at dksJ8_length_0 0 rfl rfl)
theorem dJ8_length_1 : decode cJ8_length 1 = .ok (.getfield 9, 3) := dk_180 0 9 (dk_at dksJ8_length_0 1 rfl rfl)
theorem dJ8_length_4 : decode cJ8_length 4 = .ok (.arraylength, 1) := dk_190 (dk_at dksJ8_length_0 4 rfl rfl)
theorem dJ8_length_5 : decode cJ8_length 5 = .ok (.aload_n 0, 1) := dk_42 (dk_at dksJ8_length_0 5 rfl rfl)
theorem dJ8_length_6 : decode cJ8_length 6 = .ok (.invokevirtual 335, 3) := dk_182 1 79 (dk_at dksJ8_length_0 6 rfl rfl)
theorem dJ8_length_9 : decode cJ8_length 9 = .ok (.ishr, 1) := dk_122 (dk_at dksJ8_length_0 9 rfl rfl)
theorem dJ8_length_10 : decode cJ8_length 10 = .ok (.ireturn, 1) := dk_172 (dk_at dksJ8_length_0 10 rfl rfl)
abbrev cJ8_coder : ByteArray := prog_35_method_152_code
def yJ8_coder : MethodName := ⟨RJ8, "coder", "()B"⟩
def dkwJ8_coder_0 : List UInt8 := [178, 0, 38, 153, 0, 10, 42, 180, 0, 15, 167, 0, 4, 4, 172]
abbrev dktJ8_coder_0 : List UInt8 := dkwJ8_coder_0 ++ []
theorem dksJ8_coder_0 : cJ8_coder.data.toList.drop 0 = dktJ8_coder_0 := by decide +kernel
theorem dJ8_coder_0 : decode cJ8_coder 0 = .ok (.getstatic 38, 3) := dk_178 0 38 (dk_at dksJ8_coder_0 0 rfl rfl)
theorem dJ8_coder_3 : decode cJ8_coder 3 = .ok (.ifCond .eq 10, 3) := dk_153 0 10 (dk_at dksJ8_coder_0 3 rfl rfl)
theorem dJ8_coder_6 : decode cJ8_coder 6 = .ok (.aload_n 0, 1) := dk_42 (dk_at dksJ8_coder_0 6 rfl rfl)
theorem dJ8_coder_7 : decode cJ8_coder 7 = .ok (.getfield 15, 3) := dk_180 0 15 (dk_at dksJ8_coder_0 7 rfl rfl)
theorem dJ8_coder_10 : decode cJ8_coder 10 = .ok (.goto 4, 3) := dk_167 0 4 (dk_at dksJ8_coder_0 10 rfl rfl)
theorem dJ8_coder_13 : decode cJ8_coder 13 = .ok (.iconst 1, 1) := dk_4 (dk_at dksJ8_coder_0 13 rfl rfl)
theorem dJ8_coder_14 : decode cJ8_coder 14 = .ok (.ireturn, 1) := dk_172 (dk_at dksJ8_coder_0 14 rfl rfl)
abbrev cJ8_checkBoundsOffCount : ByteArray := prog_35_method_157_code
def yJ8_checkBoundsOffCount : MethodName := ⟨RJ8, "checkBoundsOffCount", "(III)I"⟩
def dkwJ8_checkBoundsOffCount_0 : List UInt8 := [26, 27, 28, 178, 4, 29, 184, 4, 41, 172]
abbrev dktJ8_checkBoundsOffCount_0 : List UInt8 := dkwJ8_checkBoundsOffCount_0 ++ []
theorem dksJ8_checkBoundsOffCount_0 : cJ8_checkBoundsOffCount.data.toList.drop 0 = dktJ8_checkBoundsOffCount_0 := by decide +kernel
theorem dJ8_checkBoundsOffCount_0 : decode cJ8_checkBoundsOffCount 0 = .ok (.iload_n 0, 1) := dk_26 (dk_at dksJ8_checkBoundsOffCount_0 0 rfl rfl)
theorem dJ8_checkBoundsOffCount_1 : decode cJ8_checkBoundsOffCount 1 = .ok (.iload_n 1, 1) := dk_27 (dk_at dksJ8_checkBoundsOffCount_0 1 rfl rfl)
theorem dJ8_checkBoundsOffCount_2 : decode cJ8_checkBoundsOffCount 2 = .ok (.iload_n 2, 1) := dk_28 (dk_at dksJ8_checkBoundsOffCount_0 2 rfl rfl)
theorem dJ8_checkBoundsOffCount_3 : decode cJ8_checkBoundsOffCount 3 = .ok (.getstatic 1053, 3) := dk_178 4 29 (dk_at dksJ8_checkBoundsOffCount_0 3 rfl rfl)
theorem dJ8_checkBoundsOffCount_6 : decode cJ8_checkBoundsOffCount 6 = .ok (.invokestatic 1065, 3) := dk_184 4 41 (dk_at dksJ8_checkBoundsOffCount_0 6 rfl rfl)
theorem dJ8_checkBoundsOffCount_9 : decode cJ8_checkBoundsOffCount 9 = .ok (.ireturn, 1) := dk_172 (dk_at dksJ8_checkBoundsOffCount_0 9 rfl rfl)
abbrev cJ8_getBytes : ByteArray := prog_35_method_147_code
def yJ8_getBytes : MethodName := ⟨RJ8, "getBytes", "([BIB)V"⟩
def dkwJ8_getBytes_1 : List UInt8 := [184, 0, 212, 167, 0, 18, 42, 180, 0, 9, 3, 43, 28, 42, 180, 0, 9, 190, 184, 0, 106, 177]
abbrev dktJ8_getBytes_1 : List UInt8 := dkwJ8_getBytes_1 ++ []
def dkwJ8_getBytes_0 : List UInt8 := [42, 182, 1, 79, 29, 160, 0, 23, 42, 180, 0, 9, 3, 43, 28, 29, 120, 42, 180, 0, 9, 190]
abbrev dktJ8_getBytes_0 : List UInt8 := dkwJ8_getBytes_0 ++ dktJ8_getBytes_1
theorem dksJ8_getBytes_0 : cJ8_getBytes.data.toList.drop 0 = dktJ8_getBytes_0 := by decide +kernel
theorem dksJ8_getBytes_1 : cJ8_getBytes.data.toList.drop 22 = dktJ8_getBytes_1 := dk_seg dksJ8_getBytes_0 22 rfl rfl
theorem dJ8_getBytes_0 : decode cJ8_getBytes 0 = .ok (.aload_n 0, 1) := dk_42 (dk_at dksJ8_getBytes_0 0 rfl rfl)
theorem dJ8_getBytes_1 : decode cJ8_getBytes 1 = .ok (.invokevirtual 335, 3) := dk_182 1 79 (dk_at dksJ8_getBytes_0 1 rfl rfl)
theorem dJ8_getBytes_4 : decode cJ8_getBytes 4 = .ok (.iload_n 3, 1) := dk_29 (dk_at dksJ8_getBytes_0 4 rfl rfl)
theorem dJ8_getBytes_5 : decode cJ8_getBytes 5 = .ok (.if_icmp .ne 23, 3) := dk_160 0 23 (dk_at dksJ8_getBytes_0 5 rfl rfl)
theorem dJ8_getBytes_8 : decode cJ8_getBytes 8 = .ok (.aload_n 0, 1) := dk_42 (dk_at dksJ8_getBytes_0 8 rfl rfl)
theorem dJ8_getBytes_9 : decode cJ8_getBytes 9 = .ok (.getfield 9, 3) := dk_180 0 9 (dk_at dksJ8_getBytes_0 9 rfl rfl)
theorem dJ8_getBytes_12 : decode cJ8_getBytes 12 = .ok (.iconst 0, 1) := dk_3 (dk_at dksJ8_getBytes_0 12 rfl rfl)
theorem dJ8_getBytes_13 : decode cJ8_getBytes 13 = .ok (.aload_n 1, 1) := dk_43 (dk_at dksJ8_getBytes_0 13 rfl rfl)
theorem dJ8_getBytes_14 : decode cJ8_getBytes 14 = .ok (.iload_n 2, 1) := dk_28 (dk_at dksJ8_getBytes_0 14 rfl rfl)
theorem dJ8_getBytes_15 : decode cJ8_getBytes 15 = .ok (.iload_n 3, 1) := dk_29 (dk_at dksJ8_getBytes_0 15 rfl rfl)
theorem dJ8_getBytes_16 : decode cJ8_getBytes 16 = .ok (.ishl, 1) := dk_120 (dk_at dksJ8_getBytes_0 16 rfl rfl)
theorem dJ8_getBytes_17 : decode cJ8_getBytes 17 = .ok (.aload_n 0, 1) := dk_42 (dk_at dksJ8_getBytes_0 17 rfl rfl)
theorem dJ8_getBytes_18 : decode cJ8_getBytes 18 = .ok (.getfield 9, 3) := dk_180 0 9 (dk_at dksJ8_getBytes_0 18 rfl rfl)
theorem dJ8_getBytes_21 : decode cJ8_getBytes 21 = .ok (.arraylength, 1) := dk_190 (dk_at dksJ8_getBytes_0 21 rfl rfl)
theorem dJ8_getBytes_22 : decode cJ8_getBytes 22 = .ok (.invokestatic 212, 3) := dk_184 0 212 (dk_at dksJ8_getBytes_1 0 rfl rfl)
theorem dJ8_getBytes_25 : decode cJ8_getBytes 25 = .ok (.goto 18, 3) := dk_167 0 18 (dk_at dksJ8_getBytes_1 3 rfl rfl)
theorem dJ8_getBytes_28 : decode cJ8_getBytes 28 = .ok (.aload_n 0, 1) := dk_42 (dk_at dksJ8_getBytes_1 6 rfl rfl)
theorem dJ8_getBytes_29 : decode cJ8_getBytes 29 = .ok (.getfield 9, 3) := dk_180 0 9 (dk_at dksJ8_getBytes_1 7 rfl rfl)
theorem dJ8_getBytes_32 : decode cJ8_getBytes 32 = .ok (.iconst 0, 1) := dk_3 (dk_at dksJ8_getBytes_1 10 rfl rfl)
theorem dJ8_getBytes_33 : decode cJ8_getBytes 33 = .ok (.aload_n 1, 1) := dk_43 (dk_at dksJ8_getBytes_1 11 rfl rfl)
theorem dJ8_getBytes_34 : decode cJ8_getBytes 34 = .ok (.iload_n 2, 1) := dk_28 (dk_at dksJ8_getBytes_1 12 rfl rfl)
theorem dJ8_getBytes_35 : decode cJ8_getBytes 35 = .ok (.aload_n 0, 1) := dk_42 (dk_at dksJ8_getBytes_1 13 rfl rfl)
theorem dJ8_getBytes_36 : decode cJ8_getBytes 36 = .ok (.getfield 9, 3) := dk_180 0 9 (dk_at dksJ8_getBytes_1 14 rfl rfl)
theorem dJ8_getBytes_39 : decode cJ8_getBytes 39 = .ok (.arraylength, 1) := dk_190 (dk_at dksJ8_getBytes_1 17 rfl rfl)
theorem dJ8_getBytes_40 : decode cJ8_getBytes 40 = .ok (.invokestatic 106, 3) := dk_184 0 106 (dk_at dksJ8_getBytes_1 18 rfl rfl)
theorem dJ8_getBytes_43 : decode cJ8_getBytes 43 = .ok (.return_, 1) := dk_177 (dk_at dksJ8_getBytes_1 21 rfl rfl)
abbrev cJ8_init : ByteArray := prog_35_method_53_code
def yJ8_init : MethodName := ⟨RJ8, "<init>", "(Ljava/lang/StringBuilder;)V"⟩
def dkwJ8_init_0 : List UInt8 := [42, 43, 1, 183, 1, 233, 177]
abbrev dktJ8_init_0 : List UInt8 := dkwJ8_init_0 ++ []
theorem dksJ8_init_0 : cJ8_init.data.toList.drop 0 = dktJ8_init_0 := by decide +kernel
theorem dJ8_init_0 : decode cJ8_init 0 = .ok (.aload_n 0, 1) := dk_42 (dk_at dksJ8_init_0 0 rfl rfl)
theorem dJ8_init_1 : decode cJ8_init 1 = .ok (.aload_n 1, 1) := dk_43 (dk_at dksJ8_init_0 1 rfl rfl)
theorem dJ8_init_2 : decode cJ8_init 2 = .ok (.aconst_null, 1) := dk_1 (dk_at dksJ8_init_0 2 rfl rfl)
theorem dJ8_init_3 : decode cJ8_init 3 = .ok (.invokespecial 489, 3) := dk_183 1 233 (dk_at dksJ8_init_0 3 rfl rfl)
theorem dJ8_init_6 : decode cJ8_init 6 = .ok (.return_, 1) := dk_177 (dk_at dksJ8_init_0 6 rfl rfl)
abbrev cJ8_init_2 : ByteArray := prog_35_method_150_code
def yJ8_init_2 : MethodName := ⟨RJ8, "<init>", "(Ljava/lang/AbstractStringBuilder;Ljava/lang/Void;)V"⟩
def dkwJ8_init_2_4 : List UInt8 := [181, 0, 9, 177]
abbrev dktJ8_init_2_4 : List UInt8 := dkwJ8_init_2_4 ++ []
def dkwJ8_init_2_3 : List UInt8 := [184, 0, 47, 181, 0, 15, 177, 42, 4, 181, 0, 15, 42, 45, 3, 21, 4, 4, 120, 184, 0, 54]
abbrev dktJ8_init_2_3 : List UInt8 := dkwJ8_init_2_3 ++ dktJ8_init_2_4
def dkwJ8_init_2_2 : List UInt8 := [180, 4, 24, 153, 0, 28, 42, 45, 3, 21, 4, 184, 4, 27, 181, 0, 9, 42, 42, 180, 0, 9, 21, 4]
abbrev dktJ8_init_2_2 : List UInt8 := dkwJ8_init_2_2 ++ dktJ8_init_2_3
def dkwJ8_init_2_1 : List UInt8 := [181, 0, 15, 42, 45, 3, 21, 4, 184, 0, 54, 181, 0, 9, 167, 0, 59, 178, 0, 38, 153, 0, 35, 43]
abbrev dktJ8_init_2_1 : List UInt8 := dkwJ8_init_2_1 ++ dktJ8_init_2_2
def dkwJ8_init_2_0 : List UInt8 := [42, 183, 0, 1, 43, 182, 2, 40, 78, 43, 182, 2, 37, 54, 4, 43, 182, 4, 23, 153, 0, 22, 42, 3]
abbrev dktJ8_init_2_0 : List UInt8 := dkwJ8_init_2_0 ++ dktJ8_init_2_1
theorem dksJ8_init_2_0 : cJ8_init_2.data.toList.drop 0 = dktJ8_init_2_0 := by decide +kernel
theorem dksJ8_init_2_1 : cJ8_init_2.data.toList.drop 24 = dktJ8_init_2_1 := dk_seg dksJ8_init_2_0 24 rfl rfl
theorem dksJ8_init_2_2 : cJ8_init_2.data.toList.drop 48 = dktJ8_init_2_2 := dk_seg dksJ8_init_2_1 24 rfl rfl
theorem dksJ8_init_2_3 : cJ8_init_2.data.toList.drop 72 = dktJ8_init_2_3 := dk_seg dksJ8_init_2_2 24 rfl rfl
theorem dksJ8_init_2_4 : cJ8_init_2.data.toList.drop 94 = dktJ8_init_2_4 := dk_seg dksJ8_init_2_3 22 rfl rfl
theorem dJ8_init_2_0 : decode cJ8_init_2 0 = .ok (.aload_n 0, 1) := dk_42 (dk_at dksJ8_init_2_0 0 rfl rfl)
theorem dJ8_init_2_1 : decode cJ8_init_2 1 = .ok (.invokespecial 1, 3) := dk_183 0 1 (dk_at dksJ8_init_2_0 1 rfl rfl)
theorem dJ8_init_2_4 : decode cJ8_init_2 4 = .ok (.aload_n 1, 1) := dk_43 (dk_at dksJ8_init_2_0 4 rfl rfl)
theorem dJ8_init_2_5 : decode cJ8_init_2 5 = .ok (.invokevirtual 552, 3) := dk_182 2 40 (dk_at dksJ8_init_2_0 5 rfl rfl)
theorem dJ8_init_2_8 : decode cJ8_init_2 8 = .ok (.astore_n 3, 1) := dk_78 (dk_at dksJ8_init_2_0 8 rfl rfl)
theorem dJ8_init_2_9 : decode cJ8_init_2 9 = .ok (.aload_n 1, 1) := dk_43 (dk_at dksJ8_init_2_0 9 rfl rfl)
theorem dJ8_init_2_10 : decode cJ8_init_2 10 = .ok (.invokevirtual 549, 3) := dk_182 2 37 (dk_at dksJ8_init_2_0 10 rfl rfl)
theorem dJ8_init_2_13 : decode cJ8_init_2 13 = .ok (.istore 4, 2) := dk_54 4 (dk_at dksJ8_init_2_0 13 rfl rfl)
theorem dJ8_init_2_15 : decode cJ8_init_2 15 = .ok (.aload_n 1, 1) := dk_43 (dk_at dksJ8_init_2_0 15 rfl rfl)
theorem dJ8_init_2_16 : decode cJ8_init_2 16 = .ok (.invokevirtual 1047, 3) := dk_182 4 23 (dk_at dksJ8_init_2_0 16 rfl rfl)
theorem dJ8_init_2_19 : decode cJ8_init_2 19 = .ok (.ifCond .eq 22, 3) := dk_153 0 22 (dk_at dksJ8_init_2_0 19 rfl rfl)
theorem dJ8_init_2_22 : decode cJ8_init_2 22 = .ok (.aload_n 0, 1) := dk_42 (dk_at dksJ8_init_2_0 22 rfl rfl)
theorem dJ8_init_2_23 : decode cJ8_init_2 23 = .ok (.iconst 0, 1) := dk_3 (dk_at dksJ8_init_2_0 23 rfl rfl)
theorem dJ8_init_2_24 : decode cJ8_init_2 24 = .ok (.putfield 15, 3) := dk_181 0 15 (dk_at dksJ8_init_2_1 0 rfl rfl)
theorem dJ8_init_2_27 : decode cJ8_init_2 27 = .ok (.aload_n 0, 1) := dk_42 (dk_at dksJ8_init_2_1 3 rfl rfl)
theorem dJ8_init_2_28 : decode cJ8_init_2 28 = .ok (.aload_n 3, 1) := dk_45 (dk_at dksJ8_init_2_1 4 rfl rfl)
theorem dJ8_init_2_29 : decode cJ8_init_2 29 = .ok (.iconst 0, 1) := dk_3 (dk_at dksJ8_init_2_1 5 rfl rfl)
theorem dJ8_init_2_30 : decode cJ8_init_2 30 = .ok (.iload 4, 2) := dk_21 4 (dk_at dksJ8_init_2_1 6 rfl rfl)
theorem dJ8_init_2_32 : decode cJ8_init_2 32 = .ok (.invokestatic 54, 3) := dk_184 0 54 (dk_at dksJ8_init_2_1 8 rfl rfl)
theorem dJ8_init_2_35 : decode cJ8_init_2 35 = .ok (.putfield 9, 3) := dk_181 0 9 (dk_at dksJ8_init_2_1 11 rfl rfl)
theorem dJ8_init_2_38 : decode cJ8_init_2 38 = .ok (.goto 59, 3) := dk_167 0 59 (dk_at dksJ8_init_2_1 14 rfl rfl)
theorem dJ8_init_2_41 : decode cJ8_init_2 41 = .ok (.getstatic 38, 3) := dk_178 0 38 (dk_at dksJ8_init_2_1 17 rfl rfl)
theorem dJ8_init_2_44 : decode cJ8_init_2 44 = .ok (.ifCond .eq 35, 3) := dk_153 0 35 (dk_at dksJ8_init_2_1 20 rfl rfl)
theorem dJ8_init_2_47 : decode cJ8_init_2 47 = .ok (.aload_n 1, 1) := dk_43 (dk_at dksJ8_init_2_1 23 rfl rfl)
theorem dJ8_init_2_48 : decode cJ8_init_2 48 = .ok (.getfield 1048, 3) := dk_180 4 24 (dk_at dksJ8_init_2_2 0 rfl rfl)
theorem dJ8_init_2_51 : decode cJ8_init_2 51 = .ok (.ifCond .eq 28, 3) := dk_153 0 28 (dk_at dksJ8_init_2_2 3 rfl rfl)
theorem dJ8_init_2_54 : decode cJ8_init_2 54 = .ok (.aload_n 0, 1) := dk_42 (dk_at dksJ8_init_2_2 6 rfl rfl)
theorem dJ8_init_2_55 : decode cJ8_init_2 55 = .ok (.aload_n 3, 1) := dk_45 (dk_at dksJ8_init_2_2 7 rfl rfl)
theorem dJ8_init_2_56 : decode cJ8_init_2 56 = .ok (.iconst 0, 1) := dk_3 (dk_at dksJ8_init_2_2 8 rfl rfl)
theorem dJ8_init_2_57 : decode cJ8_init_2 57 = .ok (.iload 4, 2) := dk_21 4 (dk_at dksJ8_init_2_2 9 rfl rfl)
theorem dJ8_init_2_59 : decode cJ8_init_2 59 = .ok (.invokestatic 1051, 3) := dk_184 4 27 (dk_at dksJ8_init_2_2 11 rfl rfl)
theorem dJ8_init_2_62 : decode cJ8_init_2 62 = .ok (.putfield 9, 3) := dk_181 0 9 (dk_at dksJ8_init_2_2 14 rfl rfl)
theorem dJ8_init_2_65 : decode cJ8_init_2 65 = .ok (.aload_n 0, 1) := dk_42 (dk_at dksJ8_init_2_2 17 rfl rfl)
theorem dJ8_init_2_66 : decode cJ8_init_2 66 = .ok (.aload_n 0, 1) := dk_42 (dk_at dksJ8_init_2_2 18 rfl rfl)
theorem dJ8_init_2_67 : decode cJ8_init_2 67 = .ok (.getfield 9, 3) := dk_180 0 9 (dk_at dksJ8_init_2_2 19 rfl rfl)
theorem dJ8_init_2_70 : decode cJ8_init_2 70 = .ok (.iload 4, 2) := dk_21 4 (dk_at dksJ8_init_2_2 22 rfl rfl)
theorem dJ8_init_2_72 : decode cJ8_init_2 72 = .ok (.invokestatic 47, 3) := dk_184 0 47 (dk_at dksJ8_init_2_3 0 rfl rfl)
theorem dJ8_init_2_75 : decode cJ8_init_2 75 = .ok (.putfield 15, 3) := dk_181 0 15 (dk_at dksJ8_init_2_3 3 rfl rfl)
theorem dJ8_init_2_78 : decode cJ8_init_2 78 = .ok (.return_, 1) := dk_177 (dk_at dksJ8_init_2_3 6 rfl rfl)
theorem dJ8_init_2_79 : decode cJ8_init_2 79 = .ok (.aload_n 0, 1) := dk_42 (dk_at dksJ8_init_2_3 7 rfl rfl)
theorem dJ8_init_2_80 : decode cJ8_init_2 80 = .ok (.iconst 1, 1) := dk_4 (dk_at dksJ8_init_2_3 8 rfl rfl)
theorem dJ8_init_2_81 : decode cJ8_init_2 81 = .ok (.putfield 15, 3) := dk_181 0 15 (dk_at dksJ8_init_2_3 9 rfl rfl)
theorem dJ8_init_2_84 : decode cJ8_init_2 84 = .ok (.aload_n 0, 1) := dk_42 (dk_at dksJ8_init_2_3 12 rfl rfl)
theorem dJ8_init_2_85 : decode cJ8_init_2 85 = .ok (.aload_n 3, 1) := dk_45 (dk_at dksJ8_init_2_3 13 rfl rfl)
theorem dJ8_init_2_86 : decode cJ8_init_2 86 = .ok (.iconst 0, 1) := dk_3 (dk_at dksJ8_init_2_3 14 rfl rfl)
theorem dJ8_init_2_87 : decode cJ8_init_2 87 = .ok (.iload 4, 2) := dk_21 4 (dk_at dksJ8_init_2_3 15 rfl rfl)
theorem dJ8_init_2_89 : decode cJ8_init_2 89 = .ok (.iconst 1, 1) := dk_4 (dk_at dksJ8_init_2_3 17 rfl rfl)
theorem dJ8_init_2_90 : decode cJ8_init_2 90 = .ok (.ishl, 1) := dk_120 (dk_at dksJ8_init_2_3 18 rfl rfl)
theorem dJ8_init_2_91 : decode cJ8_init_2 91 = .ok (.invokestatic 54, 3) := dk_184 0 54 (dk_at dksJ8_init_2_3 19 rfl rfl)
theorem dJ8_init_2_94 : decode cJ8_init_2 94 = .ok (.putfield 9, 3) := dk_181 0 9 (dk_at dksJ8_init_2_4 0 rfl rfl)
theorem dJ8_init_2_97 : decode cJ8_init_2 97 = .ok (.return_, 1) := dk_177 (dk_at dksJ8_init_2_4 3 rfl rfl)
theorem q101 : (Jvm.Cond.initialized "java/lang/String") ∈ lw_all := lw_g (lw_at lw_m1 17 rfl) rfl
theorem q478 : (Jvm.Cond.instantiable "java/lang/String" (4 : Nat)) ∈ lw_all := lw_g (lw_at lw_m2 154 rfl) rfl
theorem q480 : (Jvm.Cond.laysFinal "java/lang/String" "java/lang/String" "value" "[B") ∈ lw_all := lw_g (lw_at lw_m2 156 rfl) rfl
theorem q481 : (Jvm.Cond.soleField "java/lang/String" "value") ∈ lw_all := lw_g (lw_at lw_m2 157 rfl) rfl
theorem q482 : (Jvm.Cond.laysFinal "java/lang/String" "java/lang/String" "coder" "B") ∈ lw_all := lw_g (lw_at lw_m2 158 rfl) rfl
theorem q483 : (Jvm.Cond.soleField "java/lang/String" "coder") ∈ lw_all := lw_g (lw_at lw_m2 159 rfl) rfl
theorem q679 : (Jvm.Cond.laysStatic "java/lang/String" "COMPACT_STRINGS" "Z") ∈ lw_tbl := lw_at lw_m3 115 rfl
theorem q689 : (Jvm.Cond.fieldLink "java/lang/String" (1048 : Nat) "java/lang/AbstractStringBuilder" "maybeLatin1" "Z") ∈ lw_all := lw_g (lw_at lw_m3 125 rfl) rfl
theorem q758 : (Jvm.Cond.static ({ cls := "java/lang/String", name := "checkBoundsBeginEnd", desc := "(III)V" } : Jvm.MethodName)) ∈ lw_all := lw_g (lw_at lw_m3 194 rfl) rfl
theorem q759 : (Jvm.Cond.code ({ cls := "java/lang/String", name := "checkBoundsBeginEnd", desc := "(III)V" } : Jvm.MethodName) prog_35_method_158_code (3 : Nat) (Option.none : Option Jvm.ClassFile.FieldType)) ∈ lw_all := lw_g (lw_at lw_m3 195 rfl) rfl
theorem q760 : (Jvm.Cond.fieldLink "java/lang/String" (1053 : Nat) "jdk/internal/util/Preconditions" "SIOOBE_FORMATTER" "Ljava/util/function/BiFunction;") ∈ lw_all := lw_g (lw_at lw_m3 196 rfl) rfl
theorem q762 : (Jvm.Cond.methodLink "java/lang/String" (1062 : Nat) ({ cls := "jdk/internal/util/Preconditions", name := "checkFromToIndex", desc := "(IIILjava/util/function/BiFunction;)I" } : Jvm.MethodName)) ∈ lw_all := lw_g (lw_at lw_m3 198 rfl) rfl
theorem q775 : (Jvm.Cond.instanceMethod ({ cls := "java/lang/String", name := "length", desc := "()I" } : Jvm.MethodName)) ∈ lw_all := lw_g (lw_at lw_m3 211 rfl) rfl
theorem q776 : (Jvm.Cond.selects "java/lang/String" ({ cls := "java/lang/String", name := "length", desc := "()I" } : Jvm.MethodName) ({ cls := "java/lang/String", name := "length", desc := "()I" } : Jvm.MethodName)) ∈ lw_all := lw_g (lw_at lw_m3 212 rfl) rfl
theorem q777 : (Jvm.Cond.code ({ cls := "java/lang/String", name := "length", desc := "()I" } : Jvm.MethodName) prog_35_method_54_code (1 : Nat) (Option.some Jvm.ClassFile.FieldType.int)) ∈ lw_all := lw_g (lw_at lw_m3 213 rfl) rfl
theorem q778 : (Jvm.Cond.methodLink "java/lang/String" (335 : Nat) ({ cls := "java/lang/String", name := "coder", desc := "()B" } : Jvm.MethodName)) ∈ lw_all := lw_g (lw_at lw_m3 214 rfl) rfl
theorem q779 : (Jvm.Cond.instanceMethod ({ cls := "java/lang/String", name := "coder", desc := "()B" } : Jvm.MethodName)) ∈ lw_all := lw_g (lw_at lw_m3 215 rfl) rfl
theorem q780 : (Jvm.Cond.selects "java/lang/String" ({ cls := "java/lang/String", name := "coder", desc := "()B" } : Jvm.MethodName) ({ cls := "java/lang/String", name := "coder", desc := "()B" } : Jvm.MethodName)) ∈ lw_all := lw_g (lw_at lw_m3 216 rfl) rfl
theorem q781 : (Jvm.Cond.code ({ cls := "java/lang/String", name := "coder", desc := "()B" } : Jvm.MethodName) prog_35_method_152_code (1 : Nat) (Option.some Jvm.ClassFile.FieldType.byte)) ∈ lw_all := lw_g (lw_at lw_m3 217 rfl) rfl
theorem q782 : (Jvm.Cond.fieldLink "java/lang/String" (38 : Nat) "java/lang/String" "COMPACT_STRINGS" "Z") ∈ lw_all := lw_g (lw_at lw_m3 218 rfl) rfl
theorem q806 : (Jvm.Cond.static ({ cls := "java/lang/String", name := "checkBoundsOffCount", desc := "(III)I" } : Jvm.MethodName)) ∈ lw_all := lw_g (lw_at lw_m4 2 rfl) rfl
theorem q807 : (Jvm.Cond.code ({ cls := "java/lang/String", name := "checkBoundsOffCount", desc := "(III)I" } : Jvm.MethodName) prog_35_method_157_code (3 : Nat) (Option.some Jvm.ClassFile.FieldType.int)) ∈ lw_all := lw_g (lw_at lw_m4 3 rfl) rfl
theorem q808 : (Jvm.Cond.methodLink "java/lang/String" (1065 : Nat) ({ cls := "jdk/internal/util/Preconditions", name := "checkFromIndexSize", desc := "(IIILjava/util/function/BiFunction;)I" } : Jvm.MethodName)) ∈ lw_all := lw_g (lw_at lw_m4 4 rfl) rfl
theorem q812 : (Jvm.Cond.instanceMethod ({ cls := "java/lang/String", name := "getBytes", desc := "([BIB)V" } : Jvm.MethodName)) ∈ lw_all := lw_g (lw_at lw_m4 8 rfl) rfl
theorem q813 : (Jvm.Cond.selects "java/lang/String" ({ cls := "java/lang/String", name := "getBytes", desc := "([BIB)V" } : Jvm.MethodName) ({ cls := "java/lang/String", name := "getBytes", desc := "([BIB)V" } : Jvm.MethodName)) ∈ lw_all := lw_g (lw_at lw_m4 9 rfl) rfl
theorem q814 : (Jvm.Cond.code ({ cls := "java/lang/String", name := "getBytes", desc := "([BIB)V" } : Jvm.MethodName) prog_35_method_147_code (4 : Nat) (Option.none : Option Jvm.ClassFile.FieldType)) ∈ lw_all := lw_g (lw_at lw_m4 10 rfl) rfl
theorem q815 : (Jvm.Cond.methodLink "java/lang/String" (212 : Nat) ({ cls := "java/lang/System", name := "arraycopy", desc := "(Ljava/lang/Object;ILjava/lang/Object;II)V" } : Jvm.MethodName)) ∈ lw_all := lw_g (lw_at lw_m4 11 rfl) rfl
theorem q816 : (Jvm.Cond.methodLink "java/lang/String" (106 : Nat) ({ cls := "java/lang/StringLatin1", name := "inflate", desc := "([BI[BII)V" } : Jvm.MethodName)) ∈ lw_all := lw_g (lw_at lw_m4 12 rfl) rfl
theorem q849 : (Jvm.Cond.instanceMethod ({ cls := "java/lang/String", name := "<init>", desc := "(Ljava/lang/StringBuilder;)V" } : Jvm.MethodName)) ∈ lw_all := lw_g (lw_at lw_m4 45 rfl) rfl
theorem q850 : (Jvm.Cond.code ({ cls := "java/lang/String", name := "<init>", desc := "(Ljava/lang/StringBuilder;)V" } : Jvm.MethodName) prog_35_method_53_code (2 : Nat) (Option.none : Option Jvm.ClassFile.FieldType)) ∈ lw_all := lw_g (lw_at lw_m4 46 rfl) rfl
theorem q851 : (Jvm.Cond.methodLink "java/lang/String" (489 : Nat) ({ cls := "java/lang/String", name := "<init>", desc := "(Ljava/lang/AbstractStringBuilder;Ljava/lang/Void;)V" } : Jvm.MethodName)) ∈ lw_all := lw_g (lw_at lw_m4 47 rfl) rfl
theorem q852 : (Jvm.Cond.instanceMethod ({ cls := "java/lang/String", name := "<init>", desc := "(Ljava/lang/AbstractStringBuilder;Ljava/lang/Void;)V" } : Jvm.MethodName)) ∈ lw_all := lw_g (lw_at lw_m4 48 rfl) rfl
theorem q853 : (Jvm.Cond.code ({ cls := "java/lang/String", name := "<init>", desc := "(Ljava/lang/AbstractStringBuilder;Ljava/lang/Void;)V" } : Jvm.MethodName) prog_35_method_150_code (5 : Nat) (Option.none : Option Jvm.ClassFile.FieldType)) ∈ lw_all := lw_g (lw_at lw_m4 49 rfl) rfl
theorem q854 : (Jvm.Cond.methodLink "java/lang/String" (1 : Nat) ({ cls := "java/lang/Object", name := "<init>", desc := "()V" } : Jvm.MethodName)) ∈ lw_all := lw_g (lw_at lw_m4 50 rfl) rfl
theorem q855 : (Jvm.Cond.methodLink "java/lang/String" (552 : Nat) ({ cls := "java/lang/AbstractStringBuilder", name := "getValue", desc := "()[B" } : Jvm.MethodName)) ∈ lw_all := lw_g (lw_at lw_m4 51 rfl) rfl
theorem q860 : (Jvm.Cond.methodLink "java/lang/String" (549 : Nat) ({ cls := "java/lang/AbstractStringBuilder", name := "length", desc := "()I" } : Jvm.MethodName)) ∈ lw_all := lw_g (lw_at lw_m4 56 rfl) rfl
theorem q868 : (Jvm.Cond.methodLink "java/lang/String" (1047 : Nat) ({ cls := "java/lang/AbstractStringBuilder", name := "isLatin1", desc := "()Z" } : Jvm.MethodName)) ∈ lw_all := lw_g (lw_at lw_m4 64 rfl) rfl
theorem q869 : (Jvm.Cond.methodLink "java/lang/String" (54 : Nat) ({ cls := "java/util/Arrays", name := "copyOfRange", desc := "([BII)[B" } : Jvm.MethodName)) ∈ lw_all := lw_g (lw_at lw_m4 65 rfl) rfl
theorem q886 : (Jvm.Cond.methodLink "java/lang/String" (1051 : Nat) ({ cls := "java/lang/StringUTF16", name := "compress", desc := "([BII)[B" } : Jvm.MethodName)) ∈ lw_all := lw_g (lw_at lw_m4 82 rfl) rfl
theorem q896 : (Jvm.Cond.methodLink "java/lang/String" (47 : Nat) ({ cls := "java/lang/StringUTF16", name := "coderFromArrayLen", desc := "([BI)B" } : Jvm.MethodName)) ∈ lw_all := lw_g (lw_at lw_m4 92 rfl) rfl
theorem q899 : (Jvm.Cond.fieldLink "java/lang/String" (9 : Nat) "java/lang/String" "value" "[B") ∈ lw_all := lw_g (lw_at lw_m4 95 rfl) rfl
theorem q900 : (Jvm.Cond.fieldLink "java/lang/String" (15 : Nat) "java/lang/String" "coder" "B") ∈ lw_all := lw_g (lw_at lw_m4 96 rfl) rfl
theorem q901 : (Jvm.Cond.lays "java/lang/String" "java/lang/String" "hash" "I") ∈ lw_all := lw_g (lw_at lw_m4 97 rfl) rfl
theorem q902 : (Jvm.Cond.soleField "java/lang/String" "hash") ∈ lw_all := lw_g (lw_at lw_m4 98 rfl) rfl
theorem q903 : (Jvm.Cond.lays "java/lang/String" "java/lang/String" "hashIsZero" "Z") ∈ lw_all := lw_g (lw_at lw_m4 99 rfl) rfl
theorem q904 : (Jvm.Cond.soleField "java/lang/String" "hashIsZero") ∈ lw_all := lw_g (lw_at lw_m4 100 rfl) rfl
theorem q905 : (Jvm.Cond.superclass "java/lang/String" "java/lang/Object") ∈ lw_all := lw_g (lw_at lw_m4 101 rfl) rfl
theorem q945 : (Jvm.Cond.selects "java/lang/String" ({ cls := "java/lang/Object", name := "getClass", desc := "()Ljava/lang/Class;" } : Jvm.MethodName) ({ cls := "java/lang/Object", name := "getClass", desc := "()Ljava/lang/Class;" } : Jvm.MethodName)) ∈ lw_all := lw_g (lw_at lw_m4 141 rfl) rfl
theorem q2350 : (Jvm.Cond.castable "java/lang/String" "java/lang/Object") ∈ lw_tbl := lw_at lw_m10 106 rfl
theorem in_J8 : ∀ w ∈ wsJ80, w ∈ lw_all := lw_in wsJ80 [480, 482, 901, 903] (by decide +kernel) (by decide +kernel)
/-! java/lang/IllegalArgumentException -/
set_option maxRecDepth 100000
def RJ9 : String := "java/lang/IllegalArgumentException"
def TJ9 : u_T := fun k => match k with
  | 0 => ("java/lang/Throwable", "cause", "Ljava/lang/Throwable;", false)
  | 1 => ("java/lang/Throwable", "stackTrace", "[Ljava/lang/StackTraceElement;", false)
  | 2 => ("java/lang/Throwable", "suppressedExceptions", "Ljava/util/List;", false)
  | 3 => ("java/lang/Throwable", "detailMessage", "Ljava/lang/String;", false)
  | 4 => ("java/lang/Throwable", "backtrace", "Ljava/lang/Object;", false)
  | _ => ("java/lang/Throwable", "depth", "I", false)
def tyJ9 : Nat → FieldType := fun k => match k with
  | 0 => .object "java/lang/Throwable"
  | 1 => .array (.object "java/lang/StackTraceElement")
  | 2 => .object "java/util/List"
  | 3 => .object "java/lang/String"
  | 4 => .object "java/lang/Object"
  | _ => .int
abbrev wsJ90 : List Cond := u_ws RJ9 TJ9 6
theorem nmJ9 : ∀ a, a < 6 → ∀ b, b < 6 → a ≠ b → (TJ9 a).2.1 ≠ (TJ9 b).2.1 := by decide +kernel
theorem tyJ9_ok : ∀ k, k < 6 → parseFieldDescriptor (TJ9 k).2.2.1 = some (tyJ9 k) := by decide +kernel
abbrev cJ9_init : ByteArray := prog_26_method_2_code
def yJ9_init : MethodName := ⟨RJ9, "<init>", "(Ljava/lang/String;)V"⟩
def dkwJ9_init_0 : List UInt8 := [42, 43, 183, 0, 7, 177]
abbrev dktJ9_init_0 : List UInt8 := dkwJ9_init_0 ++ []
theorem dksJ9_init_0 : cJ9_init.data.toList.drop 0 = dktJ9_init_0 := by decide +kernel
theorem dJ9_init_0 : decode cJ9_init 0 = .ok (.aload_n 0, 1) := dk_42 (dk_at dksJ9_init_0 0 rfl rfl)
theorem dJ9_init_1 : decode cJ9_init 1 = .ok (.aload_n 1, 1) := dk_43 (dk_at dksJ9_init_0 1 rfl rfl)
theorem dJ9_init_2 : decode cJ9_init 2 = .ok (.invokespecial 7, 3) := dk_183 0 7 (dk_at dksJ9_init_0 2 rfl rfl)
theorem dJ9_init_5 : decode cJ9_init 5 = .ok (.return_, 1) := dk_177 (dk_at dksJ9_init_0 5 rfl rfl)
theorem q102 : (Jvm.Cond.initialized "java/lang/IllegalArgumentException") ∈ lw_all := lw_g (lw_at lw_m1 18 rfl) rfl
theorem q432 : (Jvm.Cond.selects "java/lang/IllegalArgumentException" ({ cls := "java/lang/Throwable", name := "fillInStackTrace", desc := "()Ljava/lang/Throwable;" } : Jvm.MethodName) ({ cls := "java/lang/Throwable", name := "fillInStackTrace", desc := "()Ljava/lang/Throwable;" } : Jvm.MethodName)) ∈ lw_all := lw_g (lw_at lw_m2 108 rfl) rfl
theorem q544 : (Jvm.Cond.instantiable "java/lang/IllegalArgumentException" (6 : Nat)) ∈ lw_all := lw_g (lw_at lw_m2 220 rfl) rfl
theorem q545 : (Jvm.Cond.castable "java/lang/IllegalArgumentException" "java/lang/IllegalArgumentException") ∈ lw_tbl := lw_at lw_m2 221 rfl
theorem q546 : (Jvm.Cond.selects "java/lang/IllegalArgumentException" ({ cls := "java/lang/Throwable", name := "fillInStackTrace", desc := "(I)Ljava/lang/Throwable;" } : Jvm.MethodName) ({ cls := "java/lang/Throwable", name := "fillInStackTrace", desc := "(I)Ljava/lang/Throwable;" } : Jvm.MethodName)) ∈ lw_all := lw_g (lw_at lw_m2 222 rfl) rfl
theorem q547 : (Jvm.Cond.lays "java/lang/IllegalArgumentException" "java/lang/Throwable" "cause" "Ljava/lang/Throwable;") ∈ lw_all := lw_g (lw_at lw_m2 223 rfl) rfl
theorem q548 : (Jvm.Cond.lays "java/lang/IllegalArgumentException" "java/lang/Throwable" "stackTrace" "[Ljava/lang/StackTraceElement;") ∈ lw_all := lw_g (lw_at lw_m2 224 rfl) rfl
theorem q549 : (Jvm.Cond.lays "java/lang/IllegalArgumentException" "java/lang/Throwable" "suppressedExceptions" "Ljava/util/List;") ∈ lw_all := lw_g (lw_at lw_m2 225 rfl) rfl
theorem q550 : (Jvm.Cond.lays "java/lang/IllegalArgumentException" "java/lang/Throwable" "detailMessage" "Ljava/lang/String;") ∈ lw_all := lw_g (lw_at lw_m2 226 rfl) rfl
theorem q551 : (Jvm.Cond.lays "java/lang/IllegalArgumentException" "java/lang/Throwable" "backtrace" "Ljava/lang/Object;") ∈ lw_all := lw_g (lw_at lw_m2 227 rfl) rfl
theorem q554 : (Jvm.Cond.instanceMethod ({ cls := "java/lang/IllegalArgumentException", name := "<init>", desc := "(Ljava/lang/String;)V" } : Jvm.MethodName)) ∈ lw_all := lw_g (lw_at lw_m2 230 rfl) rfl
theorem q555 : (Jvm.Cond.code ({ cls := "java/lang/IllegalArgumentException", name := "<init>", desc := "(Ljava/lang/String;)V" } : Jvm.MethodName) prog_26_method_2_code (2 : Nat) (Option.none : Option Jvm.ClassFile.FieldType)) ∈ lw_all := lw_g (lw_at lw_m2 231 rfl) rfl
theorem q556 : (Jvm.Cond.methodLink "java/lang/IllegalArgumentException" (7 : Nat) ({ cls := "java/lang/RuntimeException", name := "<init>", desc := "(Ljava/lang/String;)V" } : Jvm.MethodName)) ∈ lw_all := lw_g (lw_at lw_m2 232 rfl) rfl
theorem q557 : (Jvm.Cond.lays "java/lang/IllegalArgumentException" "java/lang/Throwable" "depth" "I") ∈ lw_all := lw_g (lw_at lw_m2 233 rfl) rfl
theorem q558 : (Jvm.Cond.superclass "java/lang/IllegalArgumentException" "java/lang/RuntimeException") ∈ lw_all := lw_g (lw_at lw_m2 234 rfl) rfl
theorem q941 : (Jvm.Cond.selects "java/lang/IllegalArgumentException" ({ cls := "java/lang/Object", name := "getClass", desc := "()Ljava/lang/Class;" } : Jvm.MethodName) ({ cls := "java/lang/Object", name := "getClass", desc := "()Ljava/lang/Class;" } : Jvm.MethodName)) ∈ lw_all := lw_g (lw_at lw_m4 137 rfl) rfl
theorem q2347 : (Jvm.Cond.castable "java/lang/IllegalArgumentException" "java/lang/Object") ∈ lw_tbl := lw_at lw_m10 103 rfl
theorem in_J9 : ∀ w ∈ wsJ90, w ∈ lw_all := lw_in wsJ90 [547, 548, 549, 550, 551, 557] (by decide +kernel) (by decide +kernel)
/-! java/util/Objects -/
set_option maxRecDepth 100000
def RJ10 : String := "java/util/Objects"
abbrev cJ10_checkIndex : ByteArray := prog_47_method_17_code
def yJ10_checkIndex : MethodName := ⟨RJ10, "checkIndex", "(II)I"⟩
def dkwJ10_checkIndex_0 : List UInt8 := [26, 27, 1, 184, 0, 105, 172]
abbrev dktJ10_checkIndex_0 : List UInt8 := dkwJ10_checkIndex_0 ++ []
theorem dksJ10_checkIndex_0 : cJ10_checkIndex.data.toList.drop 0 = dktJ10_checkIndex_0 := by decide +kernel
theorem dJ10_checkIndex_0 : decode cJ10_checkIndex 0 = .ok (.iload_n 0, 1) := dk_26 (dk_at dksJ10_checkIndex_0 0 rfl rfl)
theorem dJ10_checkIndex_1 : decode cJ10_checkIndex 1 = .ok (.iload_n 1, 1) := dk_27 (dk_at dksJ10_checkIndex_0 1 rfl rfl)
theorem dJ10_checkIndex_2 : decode cJ10_checkIndex 2 = .ok (.aconst_null, 1) := dk_1 (dk_at dksJ10_checkIndex_0 2 rfl rfl)
theorem dJ10_checkIndex_3 : decode cJ10_checkIndex 3 = .ok (.invokestatic 105, 3) := dk_184 0 105 (dk_at dksJ10_checkIndex_0 3 rfl rfl)
theorem dJ10_checkIndex_6 : decode cJ10_checkIndex 6 = .ok (.ireturn, 1) := dk_172 (dk_at dksJ10_checkIndex_0 6 rfl rfl)
theorem q103 : (Jvm.Cond.initialized "java/util/Objects") ∈ lw_all := lw_g (lw_at lw_m1 19 rfl) rfl
theorem q584 : (Jvm.Cond.static ({ cls := "java/util/Objects", name := "checkIndex", desc := "(II)I" } : Jvm.MethodName)) ∈ lw_all := lw_g (lw_at lw_m3 20 rfl) rfl
theorem q585 : (Jvm.Cond.code ({ cls := "java/util/Objects", name := "checkIndex", desc := "(II)I" } : Jvm.MethodName) prog_47_method_17_code (2 : Nat) (Option.some Jvm.ClassFile.FieldType.int)) ∈ lw_all := lw_g (lw_at lw_m3 21 rfl) rfl
theorem q586 : (Jvm.Cond.methodLink "java/util/Objects" (105 : Nat) ({ cls := "jdk/internal/util/Preconditions", name := "checkIndex", desc := "(IILjava/util/function/BiFunction;)I" } : Jvm.MethodName)) ∈ lw_all := lw_g (lw_at lw_m3 22 rfl) rfl
/-! jdk/internal/util/Preconditions -/
set_option maxRecDepth 100000
def RJ11 : String := "jdk/internal/util/Preconditions"
abbrev cJ11_checkIndex : ByteArray := prog_51_method_11_code
def yJ11_checkIndex : MethodName := ⟨RJ11, "checkIndex", "(IILjava/util/function/BiFunction;)I"⟩
def dkwJ11_checkIndex_0 : List UInt8 := [26, 155, 0, 8, 26, 27, 161, 0, 10, 44, 26, 27, 184, 0, 95, 191, 26, 172]
abbrev dktJ11_checkIndex_0 : List UInt8 := dkwJ11_checkIndex_0 ++ []
theorem dksJ11_checkIndex_0 : cJ11_checkIndex.data.toList.drop 0 = dktJ11_checkIndex_0 := by decide +kernel
theorem dJ11_checkIndex_0 : decode cJ11_checkIndex 0 = .ok (.iload_n 0, 1) := dk_26 (dk_at dksJ11_checkIndex_0 0 rfl rfl)
theorem dJ11_checkIndex_1 : decode cJ11_checkIndex 1 = .ok (.ifCond .lt 8, 3) := dk_155 0 8 (dk_at dksJ11_checkIndex_0 1 rfl rfl)
theorem dJ11_checkIndex_4 : decode cJ11_checkIndex 4 = .ok (.iload_n 0, 1) := dk_26 (dk_at dksJ11_checkIndex_0 4 rfl rfl)
theorem dJ11_checkIndex_5 : decode cJ11_checkIndex 5 = .ok (.iload_n 1, 1) := dk_27 (dk_at dksJ11_checkIndex_0 5 rfl rfl)
theorem dJ11_checkIndex_6 : decode cJ11_checkIndex 6 = .ok (.if_icmp .lt 10, 3) := dk_161 0 10 (dk_at dksJ11_checkIndex_0 6 rfl rfl)
theorem dJ11_checkIndex_9 : decode cJ11_checkIndex 9 = .ok (.aload_n 2, 1) := dk_44 (dk_at dksJ11_checkIndex_0 9 rfl rfl)
theorem dJ11_checkIndex_10 : decode cJ11_checkIndex 10 = .ok (.iload_n 0, 1) := dk_26 (dk_at dksJ11_checkIndex_0 10 rfl rfl)
theorem dJ11_checkIndex_11 : decode cJ11_checkIndex 11 = .ok (.iload_n 1, 1) := dk_27 (dk_at dksJ11_checkIndex_0 11 rfl rfl)
theorem dJ11_checkIndex_12 : decode cJ11_checkIndex 12 = .ok (.invokestatic 95, 3) := dk_184 0 95 (dk_at dksJ11_checkIndex_0 12 rfl rfl)
theorem dJ11_checkIndex_15 : decode cJ11_checkIndex 15 = .ok (.athrow, 1) := dk_191 (dk_at dksJ11_checkIndex_0 15 rfl rfl)
theorem dJ11_checkIndex_16 : decode cJ11_checkIndex 16 = .ok (.iload_n 0, 1) := dk_26 (dk_at dksJ11_checkIndex_0 16 rfl rfl)
theorem dJ11_checkIndex_17 : decode cJ11_checkIndex 17 = .ok (.ireturn, 1) := dk_172 (dk_at dksJ11_checkIndex_0 17 rfl rfl)
abbrev cJ11_checkFromToIndex : ByteArray := prog_51_method_12_code
def yJ11_checkFromToIndex : MethodName := ⟨RJ11, "checkFromToIndex", "(IIILjava/util/function/BiFunction;)I"⟩
def dkwJ11_checkFromToIndex_0 : List UInt8 := [26, 155, 0, 13, 26, 27, 163, 0, 8, 27, 28, 164, 0, 11, 45, 26, 27, 28, 184, 0, 99, 191, 26, 172]
abbrev dktJ11_checkFromToIndex_0 : List UInt8 := dkwJ11_checkFromToIndex_0 ++ []
theorem dksJ11_checkFromToIndex_0 : cJ11_checkFromToIndex.data.toList.drop 0 = dktJ11_checkFromToIndex_0 := by decide +kernel
theorem dJ11_checkFromToIndex_0 : decode cJ11_checkFromToIndex 0 = .ok (.iload_n 0, 1) := dk_26 (dk_at dksJ11_checkFromToIndex_0 0 rfl rfl)
theorem dJ11_checkFromToIndex_1 : decode cJ11_checkFromToIndex 1 = .ok (.ifCond .lt 13, 3) := dk_155 0 13 (dk_at dksJ11_checkFromToIndex_0 1 rfl rfl)
theorem dJ11_checkFromToIndex_4 : decode cJ11_checkFromToIndex 4 = .ok (.iload_n 0, 1) := dk_26 (dk_at dksJ11_checkFromToIndex_0 4 rfl rfl)
theorem dJ11_checkFromToIndex_5 : decode cJ11_checkFromToIndex 5 = .ok (.iload_n 1, 1) := dk_27 (dk_at dksJ11_checkFromToIndex_0 5 rfl rfl)
theorem dJ11_checkFromToIndex_6 : decode cJ11_checkFromToIndex 6 = .ok (.if_icmp .gt 8, 3) := dk_163 0 8 (dk_at dksJ11_checkFromToIndex_0 6 rfl rfl)
theorem dJ11_checkFromToIndex_9 : decode cJ11_checkFromToIndex 9 = .ok (.iload_n 1, 1) := dk_27 (dk_at dksJ11_checkFromToIndex_0 9 rfl rfl)
theorem dJ11_checkFromToIndex_10 : decode cJ11_checkFromToIndex 10 = .ok (.iload_n 2, 1) := dk_28 (dk_at dksJ11_checkFromToIndex_0 10 rfl rfl)
theorem dJ11_checkFromToIndex_11 : decode cJ11_checkFromToIndex 11 = .ok (.if_icmp .le 11, 3) := dk_164 0 11 (dk_at dksJ11_checkFromToIndex_0 11 rfl rfl)
theorem dJ11_checkFromToIndex_14 : decode cJ11_checkFromToIndex 14 = .ok (.aload_n 3, 1) := dk_45 (dk_at dksJ11_checkFromToIndex_0 14 rfl rfl)
theorem dJ11_checkFromToIndex_15 : decode cJ11_checkFromToIndex 15 = .ok (.iload_n 0, 1) := dk_26 (dk_at dksJ11_checkFromToIndex_0 15 rfl rfl)
theorem dJ11_checkFromToIndex_16 : decode cJ11_checkFromToIndex 16 = .ok (.iload_n 1, 1) := dk_27 (dk_at dksJ11_checkFromToIndex_0 16 rfl rfl)
theorem dJ11_checkFromToIndex_17 : decode cJ11_checkFromToIndex 17 = .ok (.iload_n 2, 1) := dk_28 (dk_at dksJ11_checkFromToIndex_0 17 rfl rfl)
theorem dJ11_checkFromToIndex_18 : decode cJ11_checkFromToIndex 18 = .ok (.invokestatic 99, 3) := dk_184 0 99 (dk_at dksJ11_checkFromToIndex_0 18 rfl rfl)
theorem dJ11_checkFromToIndex_21 : decode cJ11_checkFromToIndex 21 = .ok (.athrow, 1) := dk_191 (dk_at dksJ11_checkFromToIndex_0 21 rfl rfl)
theorem dJ11_checkFromToIndex_22 : decode cJ11_checkFromToIndex 22 = .ok (.iload_n 0, 1) := dk_26 (dk_at dksJ11_checkFromToIndex_0 22 rfl rfl)
theorem dJ11_checkFromToIndex_23 : decode cJ11_checkFromToIndex 23 = .ok (.ireturn, 1) := dk_172 (dk_at dksJ11_checkFromToIndex_0 23 rfl rfl)
abbrev cJ11_checkFromIndexSize : ByteArray := prog_51_method_13_code
def yJ11_checkFromIndexSize : MethodName := ⟨RJ11, "checkFromIndexSize", "(IIILjava/util/function/BiFunction;)I"⟩
def dkwJ11_checkFromIndexSize_1 : List UInt8 := [172]
abbrev dktJ11_checkFromIndexSize_1 : List UInt8 := dkwJ11_checkFromIndexSize_1 ++ []
def dkwJ11_checkFromIndexSize_0 : List UInt8 := [28, 26, 128, 27, 128, 155, 0, 10, 27, 28, 26, 100, 164, 0, 11, 45, 26, 27, 28, 184, 0, 103, 191, 26]
abbrev dktJ11_checkFromIndexSize_0 : List UInt8 := dkwJ11_checkFromIndexSize_0 ++ dktJ11_checkFromIndexSize_1
theorem dksJ11_checkFromIndexSize_0 : cJ11_checkFromIndexSize.data.toList.drop 0 = dktJ11_checkFromIndexSize_0 := by decide +kernel
theorem dksJ11_checkFromIndexSize_1 : cJ11_checkFromIndexSize.data.toList.drop 24 = dktJ11_checkFromIndexSize_1 := dk_seg dksJ11_checkFromIndexSize_0 24 rfl rfl
theorem dJ11_checkFromIndexSize_0 : decode cJ11_checkFromIndexSize 0 = .ok (.iload_n 2, 1) := dk_28 (dk_at dksJ11_checkFromIndexSize_0 0 rfl rfl)
theorem dJ11_checkFromIndexSize_1 : decode cJ11_checkFromIndexSize 1 = .ok (.iload_n 0, 1) := dk_26 (dk_at dksJ11_checkFromIndexSize_0 1 rfl rfl)
theorem dJ11_checkFromIndexSize_2 : decode cJ11_checkFromIndexSize 2 = .ok (.ior, 1) := dk_128 (dk_at dksJ11_checkFromIndexSize_0 2 rfl rfl)
theorem dJ11_checkFromIndexSize_3 : decode cJ11_checkFromIndexSize 3 = .ok (.iload_n 1, 1) := dk_27 (dk_at dksJ11_checkFromIndexSize_0 3 rfl rfl)
theorem dJ11_checkFromIndexSize_4 : decode cJ11_checkFromIndexSize 4 = .ok (.ior, 1) := dk_128 (dk_at dksJ11_checkFromIndexSize_0 4 rfl rfl)
theorem dJ11_checkFromIndexSize_5 : decode cJ11_checkFromIndexSize 5 = .ok (.ifCond .lt 10, 3) := dk_155 0 10 (dk_at dksJ11_checkFromIndexSize_0 5 rfl rfl)
theorem dJ11_checkFromIndexSize_8 : decode cJ11_checkFromIndexSize 8 = .ok (.iload_n 1, 1) := dk_27 (dk_at dksJ11_checkFromIndexSize_0 8 rfl rfl)
theorem dJ11_checkFromIndexSize_9 : decode cJ11_checkFromIndexSize 9 = .ok (.iload_n 2, 1) := dk_28 (dk_at dksJ11_checkFromIndexSize_0 9 rfl rfl)
theorem dJ11_checkFromIndexSize_10 : decode cJ11_checkFromIndexSize 10 = .ok (.iload_n 0, 1) := dk_26 (dk_at dksJ11_checkFromIndexSize_0 10 rfl rfl)
theorem dJ11_checkFromIndexSize_11 : decode cJ11_checkFromIndexSize 11 = .ok (.isub, 1) := dk_100 (dk_at dksJ11_checkFromIndexSize_0 11 rfl rfl)
theorem dJ11_checkFromIndexSize_12 : decode cJ11_checkFromIndexSize 12 = .ok (.if_icmp .le 11, 3) := dk_164 0 11 (dk_at dksJ11_checkFromIndexSize_0 12 rfl rfl)
theorem dJ11_checkFromIndexSize_15 : decode cJ11_checkFromIndexSize 15 = .ok (.aload_n 3, 1) := dk_45 (dk_at dksJ11_checkFromIndexSize_0 15 rfl rfl)
theorem dJ11_checkFromIndexSize_16 : decode cJ11_checkFromIndexSize 16 = .ok (.iload_n 0, 1) := dk_26 (dk_at dksJ11_checkFromIndexSize_0 16 rfl rfl)
theorem dJ11_checkFromIndexSize_17 : decode cJ11_checkFromIndexSize 17 = .ok (.iload_n 1, 1) := dk_27 (dk_at dksJ11_checkFromIndexSize_0 17 rfl rfl)
theorem dJ11_checkFromIndexSize_18 : decode cJ11_checkFromIndexSize 18 = .ok (.iload_n 2, 1) := dk_28 (dk_at dksJ11_checkFromIndexSize_0 18 rfl rfl)
theorem dJ11_checkFromIndexSize_19 : decode cJ11_checkFromIndexSize 19 = .ok (.invokestatic 103, 3) := dk_184 0 103 (dk_at dksJ11_checkFromIndexSize_0 19 rfl rfl)
theorem dJ11_checkFromIndexSize_22 : decode cJ11_checkFromIndexSize 22 = .ok (.athrow, 1) := dk_191 (dk_at dksJ11_checkFromIndexSize_0 22 rfl rfl)
theorem dJ11_checkFromIndexSize_23 : decode cJ11_checkFromIndexSize 23 = .ok (.iload_n 0, 1) := dk_26 (dk_at dksJ11_checkFromIndexSize_0 23 rfl rfl)
theorem dJ11_checkFromIndexSize_24 : decode cJ11_checkFromIndexSize 24 = .ok (.ireturn, 1) := dk_172 (dk_at dksJ11_checkFromIndexSize_1 0 rfl rfl)
theorem q104 : (Jvm.Cond.initialized "jdk/internal/util/Preconditions") ∈ lw_all := lw_g (lw_at lw_m1 20 rfl) rfl
theorem q587 : (Jvm.Cond.static ({ cls := "jdk/internal/util/Preconditions", name := "checkIndex", desc := "(IILjava/util/function/BiFunction;)I" } : Jvm.MethodName)) ∈ lw_all := lw_g (lw_at lw_m3 23 rfl) rfl
theorem q588 : (Jvm.Cond.code ({ cls := "jdk/internal/util/Preconditions", name := "checkIndex", desc := "(IILjava/util/function/BiFunction;)I" } : Jvm.MethodName) prog_51_method_11_code (3 : Nat) (Option.some Jvm.ClassFile.FieldType.int)) ∈ lw_all := lw_g (lw_at lw_m3 24 rfl) rfl
theorem q761 : (Jvm.Cond.laysStatic "jdk/internal/util/Preconditions" "SIOOBE_FORMATTER" "Ljava/util/function/BiFunction;") ∈ lw_tbl := lw_at lw_m3 197 rfl
theorem q763 : (Jvm.Cond.static ({ cls := "jdk/internal/util/Preconditions", name := "checkFromToIndex", desc := "(IIILjava/util/function/BiFunction;)I" } : Jvm.MethodName)) ∈ lw_all := lw_g (lw_at lw_m3 199 rfl) rfl
theorem q764 : (Jvm.Cond.code ({ cls := "jdk/internal/util/Preconditions", name := "checkFromToIndex", desc := "(IIILjava/util/function/BiFunction;)I" } : Jvm.MethodName) prog_51_method_12_code (4 : Nat) (Option.some Jvm.ClassFile.FieldType.int)) ∈ lw_all := lw_g (lw_at lw_m3 200 rfl) rfl
theorem q809 : (Jvm.Cond.static ({ cls := "jdk/internal/util/Preconditions", name := "checkFromIndexSize", desc := "(IIILjava/util/function/BiFunction;)I" } : Jvm.MethodName)) ∈ lw_all := lw_g (lw_at lw_m4 5 rfl) rfl
theorem q810 : (Jvm.Cond.code ({ cls := "jdk/internal/util/Preconditions", name := "checkFromIndexSize", desc := "(IIILjava/util/function/BiFunction;)I" } : Jvm.MethodName) prog_51_method_13_code (4 : Nat) (Option.some Jvm.ClassFile.FieldType.int)) ∈ lw_all := lw_g (lw_at lw_m4 6 rfl) rfl
/-! java/lang/IllegalStateException -/
set_option maxRecDepth 100000
def RJ12 : String := "java/lang/IllegalStateException"
def TJ12 : u_T := fun k => match k with
  | 0 => ("java/lang/Throwable", "cause", "Ljava/lang/Throwable;", false)
  | 1 => ("java/lang/Throwable", "stackTrace", "[Ljava/lang/StackTraceElement;", false)
  | 2 => ("java/lang/Throwable", "suppressedExceptions", "Ljava/util/List;", false)
  | 3 => ("java/lang/Throwable", "detailMessage", "Ljava/lang/String;", false)
  | 4 => ("java/lang/Throwable", "backtrace", "Ljava/lang/Object;", false)
  | _ => ("java/lang/Throwable", "depth", "I", false)
def tyJ12 : Nat → FieldType := fun k => match k with
  | 0 => .object "java/lang/Throwable"
  | 1 => .array (.object "java/lang/StackTraceElement")
  | 2 => .object "java/util/List"
  | 3 => .object "java/lang/String"
  | 4 => .object "java/lang/Object"
  | _ => .int
abbrev wsJ120 : List Cond := u_ws RJ12 TJ12 6
theorem nmJ12 : ∀ a, a < 6 → ∀ b, b < 6 → a ≠ b → (TJ12 a).2.1 ≠ (TJ12 b).2.1 := by decide +kernel
theorem tyJ12_ok : ∀ k, k < 6 → parseFieldDescriptor (TJ12 k).2.2.1 = some (tyJ12 k) := by decide +kernel
abbrev cJ12_init : ByteArray := prog_27_method_2_code
def yJ12_init : MethodName := ⟨RJ12, "<init>", "(Ljava/lang/String;)V"⟩
def dkwJ12_init_0 : List UInt8 := [42, 43, 183, 0, 7, 177]
abbrev dktJ12_init_0 : List UInt8 := dkwJ12_init_0 ++ []
theorem dksJ12_init_0 : cJ12_init.data.toList.drop 0 = dktJ12_init_0 := by decide +kernel
theorem dJ12_init_0 : decode cJ12_init 0 = .ok (.aload_n 0, 1) := dk_42 (dk_at dksJ12_init_0 0 rfl rfl)
theorem dJ12_init_1 : decode cJ12_init 1 = .ok (.aload_n 1, 1) := dk_43 (dk_at dksJ12_init_0 1 rfl rfl)
theorem dJ12_init_2 : decode cJ12_init 2 = .ok (.invokespecial 7, 3) := dk_183 0 7 (dk_at dksJ12_init_0 2 rfl rfl)
theorem dJ12_init_5 : decode cJ12_init 5 = .ok (.return_, 1) := dk_177 (dk_at dksJ12_init_0 5 rfl rfl)
theorem q105 : (Jvm.Cond.initialized "java/lang/IllegalStateException") ∈ lw_all := lw_g (lw_at lw_m1 21 rfl) rfl
theorem q433 : (Jvm.Cond.selects "java/lang/IllegalStateException" ({ cls := "java/lang/Throwable", name := "fillInStackTrace", desc := "()Ljava/lang/Throwable;" } : Jvm.MethodName) ({ cls := "java/lang/Throwable", name := "fillInStackTrace", desc := "()Ljava/lang/Throwable;" } : Jvm.MethodName)) ∈ lw_all := lw_g (lw_at lw_m2 109 rfl) rfl
theorem q598 : (Jvm.Cond.instantiable "java/lang/IllegalStateException" (6 : Nat)) ∈ lw_all := lw_g (lw_at lw_m3 34 rfl) rfl
theorem q599 : (Jvm.Cond.castable "java/lang/IllegalStateException" "java/lang/IllegalStateException") ∈ lw_tbl := lw_at lw_m3 35 rfl
theorem q600 : (Jvm.Cond.selects "java/lang/IllegalStateException" ({ cls := "java/lang/Throwable", name := "fillInStackTrace", desc := "(I)Ljava/lang/Throwable;" } : Jvm.MethodName) ({ cls := "java/lang/Throwable", name := "fillInStackTrace", desc := "(I)Ljava/lang/Throwable;" } : Jvm.MethodName)) ∈ lw_all := lw_g (lw_at lw_m3 36 rfl) rfl
theorem q601 : (Jvm.Cond.lays "java/lang/IllegalStateException" "java/lang/Throwable" "cause" "Ljava/lang/Throwable;") ∈ lw_all := lw_g (lw_at lw_m3 37 rfl) rfl
theorem q602 : (Jvm.Cond.lays "java/lang/IllegalStateException" "java/lang/Throwable" "stackTrace" "[Ljava/lang/StackTraceElement;") ∈ lw_all := lw_g (lw_at lw_m3 38 rfl) rfl
theorem q603 : (Jvm.Cond.lays "java/lang/IllegalStateException" "java/lang/Throwable" "suppressedExceptions" "Ljava/util/List;") ∈ lw_all := lw_g (lw_at lw_m3 39 rfl) rfl
theorem q604 : (Jvm.Cond.lays "java/lang/IllegalStateException" "java/lang/Throwable" "detailMessage" "Ljava/lang/String;") ∈ lw_all := lw_g (lw_at lw_m3 40 rfl) rfl
theorem q605 : (Jvm.Cond.lays "java/lang/IllegalStateException" "java/lang/Throwable" "backtrace" "Ljava/lang/Object;") ∈ lw_all := lw_g (lw_at lw_m3 41 rfl) rfl
theorem q608 : (Jvm.Cond.instanceMethod ({ cls := "java/lang/IllegalStateException", name := "<init>", desc := "(Ljava/lang/String;)V" } : Jvm.MethodName)) ∈ lw_all := lw_g (lw_at lw_m3 44 rfl) rfl
theorem q609 : (Jvm.Cond.code ({ cls := "java/lang/IllegalStateException", name := "<init>", desc := "(Ljava/lang/String;)V" } : Jvm.MethodName) prog_27_method_2_code (2 : Nat) (Option.none : Option Jvm.ClassFile.FieldType)) ∈ lw_all := lw_g (lw_at lw_m3 45 rfl) rfl
theorem q610 : (Jvm.Cond.methodLink "java/lang/IllegalStateException" (7 : Nat) ({ cls := "java/lang/RuntimeException", name := "<init>", desc := "(Ljava/lang/String;)V" } : Jvm.MethodName)) ∈ lw_all := lw_g (lw_at lw_m3 46 rfl) rfl
theorem q611 : (Jvm.Cond.lays "java/lang/IllegalStateException" "java/lang/Throwable" "depth" "I") ∈ lw_all := lw_g (lw_at lw_m3 47 rfl) rfl
theorem q612 : (Jvm.Cond.superclass "java/lang/IllegalStateException" "java/lang/RuntimeException") ∈ lw_all := lw_g (lw_at lw_m3 48 rfl) rfl
theorem q942 : (Jvm.Cond.selects "java/lang/IllegalStateException" ({ cls := "java/lang/Object", name := "getClass", desc := "()Ljava/lang/Class;" } : Jvm.MethodName) ({ cls := "java/lang/Object", name := "getClass", desc := "()Ljava/lang/Class;" } : Jvm.MethodName)) ∈ lw_all := lw_g (lw_at lw_m4 138 rfl) rfl
theorem q2348 : (Jvm.Cond.castable "java/lang/IllegalStateException" "java/lang/Object") ∈ lw_tbl := lw_at lw_m10 104 rfl
theorem in_J12 : ∀ w ∈ wsJ120, w ∈ lw_all := lw_in wsJ120 [601, 602, 603, 604, 605, 611] (by decide +kernel) (by decide +kernel)
/-! java/lang/Math -/
set_option maxRecDepth 100000
def RJ13 : String := "java/lang/Math"
abbrev cJ13_min : ByteArray := prog_32_method_69_code
def yJ13_min : MethodName := ⟨RJ13, "min", "(II)I"⟩
def dkwJ13_min_0 : List UInt8 := [26, 27, 163, 0, 7, 26, 167, 0, 4, 27, 172]
abbrev dktJ13_min_0 : List UInt8 := dkwJ13_min_0 ++ []
theorem dksJ13_min_0 : cJ13_min.data.toList.drop 0 = dktJ13_min_0 := by decide +kernel
theorem dJ13_min_0 : decode cJ13_min 0 = .ok (.iload_n 0, 1) := dk_26 (dk_at dksJ13_min_0 0 rfl rfl)
theorem dJ13_min_1 : decode cJ13_min 1 = .ok (.iload_n 1, 1) := dk_27 (dk_at dksJ13_min_0 1 rfl rfl)
theorem dJ13_min_2 : decode cJ13_min 2 = .ok (.if_icmp .gt 7, 3) := dk_163 0 7 (dk_at dksJ13_min_0 2 rfl rfl)
theorem dJ13_min_5 : decode cJ13_min 5 = .ok (.iload_n 0, 1) := dk_26 (dk_at dksJ13_min_0 5 rfl rfl)
theorem dJ13_min_6 : decode cJ13_min 6 = .ok (.goto 4, 3) := dk_167 0 4 (dk_at dksJ13_min_0 6 rfl rfl)
theorem dJ13_min_9 : decode cJ13_min 9 = .ok (.iload_n 1, 1) := dk_27 (dk_at dksJ13_min_0 9 rfl rfl)
theorem dJ13_min_10 : decode cJ13_min 10 = .ok (.ireturn, 1) := dk_172 (dk_at dksJ13_min_0 10 rfl rfl)
abbrev cJ13_max : ByteArray := prog_32_method_65_code
def yJ13_max : MethodName := ⟨RJ13, "max", "(II)I"⟩
def dkwJ13_max_0 : List UInt8 := [26, 27, 161, 0, 7, 26, 167, 0, 4, 27, 172]
abbrev dktJ13_max_0 : List UInt8 := dkwJ13_max_0 ++ []
theorem dksJ13_max_0 : cJ13_max.data.toList.drop 0 = dktJ13_max_0 := by decide +kernel
theorem dJ13_max_0 : decode cJ13_max 0 = .ok (.iload_n 0, 1) := dk_26 (dk_at dksJ13_max_0 0 rfl rfl)
theorem dJ13_max_1 : decode cJ13_max 1 = .ok (.iload_n 1, 1) := dk_27 (dk_at dksJ13_max_0 1 rfl rfl)
theorem dJ13_max_2 : decode cJ13_max 2 = .ok (.if_icmp .lt 7, 3) := dk_161 0 7 (dk_at dksJ13_max_0 2 rfl rfl)
theorem dJ13_max_5 : decode cJ13_max 5 = .ok (.iload_n 0, 1) := dk_26 (dk_at dksJ13_max_0 5 rfl rfl)
theorem dJ13_max_6 : decode cJ13_max 6 = .ok (.goto 4, 3) := dk_167 0 4 (dk_at dksJ13_max_0 6 rfl rfl)
theorem dJ13_max_9 : decode cJ13_max 9 = .ok (.iload_n 1, 1) := dk_27 (dk_at dksJ13_max_0 9 rfl rfl)
theorem dJ13_max_10 : decode cJ13_max 10 = .ok (.ireturn, 1) := dk_172 (dk_at dksJ13_max_0 10 rfl rfl)
theorem q106 : (Jvm.Cond.initialized "java/lang/Math") ∈ lw_all := lw_g (lw_at lw_m1 22 rfl) rfl
theorem q627 : (Jvm.Cond.static ({ cls := "java/lang/Math", name := "min", desc := "(II)I" } : Jvm.MethodName)) ∈ lw_all := lw_g (lw_at lw_m3 63 rfl) rfl
theorem q628 : (Jvm.Cond.code ({ cls := "java/lang/Math", name := "min", desc := "(II)I" } : Jvm.MethodName) prog_32_method_69_code (2 : Nat) (Option.some Jvm.ClassFile.FieldType.int)) ∈ lw_all := lw_g (lw_at lw_m3 64 rfl) rfl
theorem q630 : (Jvm.Cond.static ({ cls := "java/lang/Math", name := "max", desc := "(II)I" } : Jvm.MethodName)) ∈ lw_all := lw_g (lw_at lw_m3 66 rfl) rfl
theorem q631 : (Jvm.Cond.code ({ cls := "java/lang/Math", name := "max", desc := "(II)I" } : Jvm.MethodName) prog_32_method_65_code (2 : Nat) (Option.some Jvm.ClassFile.FieldType.int)) ∈ lw_all := lw_g (lw_at lw_m3 67 rfl) rfl
/-! java/lang/AbstractStringBuilder -/
set_option maxRecDepth 100000
def RJ14 : String := "java/lang/AbstractStringBuilder"
abbrev cJ14_init : ByteArray := prog_22_method_2_code
def yJ14_init : MethodName := ⟨RJ14, "<init>", "(I)V"⟩
def dkwJ14_init_1 : List UInt8 := [167, 0, 16, 42, 27, 184, 0, 26, 181, 0, 15, 42, 4, 181, 0, 22, 177]
abbrev dktJ14_init_1 : List UInt8 := dkwJ14_init_1 ++ []
def dkwJ14_init_0 : List UInt8 := [42, 183, 0, 3, 178, 0, 18, 153, 0, 18, 42, 27, 188, 8, 181, 0, 15, 42, 3, 181, 0, 22]
abbrev dktJ14_init_0 : List UInt8 := dkwJ14_init_0 ++ dktJ14_init_1
theorem dksJ14_init_0 : cJ14_init.data.toList.drop 0 = dktJ14_init_0 := by decide +kernel
theorem dksJ14_init_1 : cJ14_init.data.toList.drop 22 = dktJ14_init_1 := dk_seg dksJ14_init_0 22 rfl rfl
theorem dJ14_init_0 : decode cJ14_init 0 = .ok (.aload_n 0, 1) := dk_42 (dk_at dksJ14_init_0 0 rfl rfl)
theorem dJ14_init_1 : decode cJ14_init 1 = .ok (.invokespecial 3, 3) := dk_183 0 3 (dk_at dksJ14_init_0 1 rfl rfl)
theorem dJ14_init_4 : decode cJ14_init 4 = .ok (.getstatic 18, 3) := dk_178 0 18 (dk_at dksJ14_init_0 4 rfl rfl)
theorem dJ14_init_7 : decode cJ14_init 7 = .ok (.ifCond .eq 18, 3) := dk_153 0 18 (dk_at dksJ14_init_0 7 rfl rfl)
theorem dJ14_init_10 : decode cJ14_init 10 = .ok (.aload_n 0, 1) := dk_42 (dk_at dksJ14_init_0 10 rfl rfl)
theorem dJ14_init_11 : decode cJ14_init 11 = .ok (.iload_n 1, 1) := dk_27 (dk_at dksJ14_init_0 11 rfl rfl)
theorem dJ14_init_12 : decode cJ14_init 12 = .ok (.newarray .byte, 2) := dk_188_8 (dk_at dksJ14_init_0 12 rfl rfl)
theorem dJ14_init_14 : decode cJ14_init 14 = .ok (.putfield 15, 3) := dk_181 0 15 (dk_at dksJ14_init_0 14 rfl rfl)
theorem dJ14_init_17 : decode cJ14_init 17 = .ok (.aload_n 0, 1) := dk_42 (dk_at dksJ14_init_0 17 rfl rfl)
theorem dJ14_init_18 : decode cJ14_init 18 = .ok (.iconst 0, 1) := dk_3 (dk_at dksJ14_init_0 18 rfl rfl)
theorem dJ14_init_19 : decode cJ14_init 19 = .ok (.putfield 22, 3) := dk_181 0 22 (dk_at dksJ14_init_0 19 rfl rfl)
theorem dJ14_init_22 : decode cJ14_init 22 = .ok (.goto 16, 3) := dk_167 0 16 (dk_at dksJ14_init_1 0 rfl rfl)
theorem dJ14_init_25 : decode cJ14_init 25 = .ok (.aload_n 0, 1) := dk_42 (dk_at dksJ14_init_1 3 rfl rfl)
theorem dJ14_init_26 : decode cJ14_init 26 = .ok (.iload_n 1, 1) := dk_27 (dk_at dksJ14_init_1 4 rfl rfl)
theorem dJ14_init_27 : decode cJ14_init 27 = .ok (.invokestatic 26, 3) := dk_184 0 26 (dk_at dksJ14_init_1 5 rfl rfl)
theorem dJ14_init_30 : decode cJ14_init 30 = .ok (.putfield 15, 3) := dk_181 0 15 (dk_at dksJ14_init_1 8 rfl rfl)
theorem dJ14_init_33 : decode cJ14_init 33 = .ok (.aload_n 0, 1) := dk_42 (dk_at dksJ14_init_1 11 rfl rfl)
theorem dJ14_init_34 : decode cJ14_init 34 = .ok (.iconst 1, 1) := dk_4 (dk_at dksJ14_init_1 12 rfl rfl)
theorem dJ14_init_35 : decode cJ14_init 35 = .ok (.putfield 22, 3) := dk_181 0 22 (dk_at dksJ14_init_1 13 rfl rfl)
theorem dJ14_init_38 : decode cJ14_init 38 = .ok (.return_, 1) := dk_177 (dk_at dksJ14_init_1 16 rfl rfl)
abbrev cJ14_append : ByteArray := prog_22_method_22_code
def yJ14_append : MethodName := ⟨RJ14, "append", "(Ljava/lang/String;)Ljava/lang/AbstractStringBuilder;"⟩
def dkwJ14_append_1 : List UInt8 := [42, 42, 180, 0, 79, 43, 182, 0, 208, 42, 89, 180, 0, 79, 28, 96, 181, 0, 79, 42, 176]
abbrev dktJ14_append_1 : List UInt8 := dkwJ14_append_1 ++ []
def dkwJ14_append_0 : List UInt8 := [43, 199, 0, 8, 42, 182, 0, 204, 176, 43, 182, 0, 32, 61, 42, 42, 180, 0, 79, 28, 96, 182, 0, 100]
abbrev dktJ14_append_0 : List UInt8 := dkwJ14_append_0 ++ dktJ14_append_1
theorem dksJ14_append_0 : cJ14_append.data.toList.drop 0 = dktJ14_append_0 := by decide +kernel
theorem dksJ14_append_1 : cJ14_append.data.toList.drop 24 = dktJ14_append_1 := dk_seg dksJ14_append_0 24 rfl rfl
theorem dJ14_append_0 : decode cJ14_append 0 = .ok (.aload_n 1, 1) := dk_43 (dk_at dksJ14_append_0 0 rfl rfl)
theorem dJ14_append_1 : decode cJ14_append 1 = .ok (.ifnonnull 8, 3) := dk_199 0 8 (dk_at dksJ14_append_0 1 rfl rfl)
theorem dJ14_append_4 : decode cJ14_append 4 = .ok (.aload_n 0, 1) := dk_42 (dk_at dksJ14_append_0 4 rfl rfl)
theorem dJ14_append_5 : decode cJ14_append 5 = .ok (.invokevirtual 204, 3) := dk_182 0 204 (dk_at dksJ14_append_0 5 rfl rfl)
theorem dJ14_append_8 : decode cJ14_append 8 = .ok (.areturn, 1) := dk_176 (dk_at dksJ14_append_0 8 rfl rfl)
theorem dJ14_append_9 : decode cJ14_append 9 = .ok (.aload_n 1, 1) := dk_43 (dk_at dksJ14_append_0 9 rfl rfl)
theorem dJ14_append_10 : decode cJ14_append 10 = .ok (.invokevirtual 32, 3) := dk_182 0 32 (dk_at dksJ14_append_0 10 rfl rfl)
theorem dJ14_append_13 : decode cJ14_append 13 = .ok (.istore_n 2, 1) := dk_61 (dk_at dksJ14_append_0 13 rfl rfl)
theorem dJ14_append_14 : decode cJ14_append 14 = .ok (.aload_n 0, 1) := dk_42 (dk_at dksJ14_append_0 14 rfl rfl)
theorem dJ14_append_15 : decode cJ14_append 15 = .ok (.aload_n 0, 1) := dk_42 (dk_at dksJ14_append_0 15 rfl rfl)
theorem dJ14_append_16 : decode cJ14_append 16 = .ok (.getfield 79, 3) := dk_180 0 79 (dk_at dksJ14_append_0 16 rfl rfl)
theorem dJ14_append_19 : decode cJ14_append 19 = .ok (.iload_n 2, 1) := dk_28 (dk_at dksJ14_append_0 19 rfl rfl)
theorem dJ14_append_20 : decode cJ14_append 20 = .ok (.iadd, 1) := dk_96 (dk_at dksJ14_append_0 20 rfl rfl)
theorem dJ14_append_21 : decode cJ14_append 21 = .ok (.invokevirtual 100, 3) := dk_182 0 100 (dk_at dksJ14_append_0 21 rfl rfl)
theorem dJ14_append_24 : decode cJ14_append 24 = .ok (.aload_n 0, 1) := dk_42 (dk_at dksJ14_append_1 0 rfl rfl)
theorem dJ14_append_25 : decode cJ14_append 25 = .ok (.aload_n 0, 1) := dk_42 (dk_at dksJ14_append_1 1 rfl rfl)
theorem dJ14_append_26 : decode cJ14_append 26 = .ok (.getfield 79, 3) := dk_180 0 79 (dk_at dksJ14_append_1 2 rfl rfl)
theorem dJ14_append_29 : decode cJ14_append 29 = .ok (.aload_n 1, 1) := dk_43 (dk_at dksJ14_append_1 5 rfl rfl)
theorem dJ14_append_30 : decode cJ14_append 30 = .ok (.invokevirtual 208, 3) := dk_182 0 208 (dk_at dksJ14_append_1 6 rfl rfl)
theorem dJ14_append_33 : decode cJ14_append 33 = .ok (.aload_n 0, 1) := dk_42 (dk_at dksJ14_append_1 9 rfl rfl)
theorem dJ14_append_34 : decode cJ14_append 34 = .ok (.dup, 1) := dk_89 (dk_at dksJ14_append_1 10 rfl rfl)
theorem dJ14_append_35 : decode cJ14_append 35 = .ok (.getfield 79, 3) := dk_180 0 79 (dk_at dksJ14_append_1 11 rfl rfl)
theorem dJ14_append_38 : decode cJ14_append 38 = .ok (.iload_n 2, 1) := dk_28 (dk_at dksJ14_append_1 14 rfl rfl)
theorem dJ14_append_39 : decode cJ14_append 39 = .ok (.iadd, 1) := dk_96 (dk_at dksJ14_append_1 15 rfl rfl)
theorem dJ14_append_40 : decode cJ14_append 40 = .ok (.putfield 79, 3) := dk_181 0 79 (dk_at dksJ14_append_1 16 rfl rfl)
theorem dJ14_append_43 : decode cJ14_append 43 = .ok (.aload_n 0, 1) := dk_42 (dk_at dksJ14_append_1 19 rfl rfl)
theorem dJ14_append_44 : decode cJ14_append 44 = .ok (.areturn, 1) := dk_176 (dk_at dksJ14_append_1 20 rfl rfl)
abbrev cJ14_appendNull : ByteArray := prog_22_method_26_code
def yJ14_appendNull : MethodName := ⟨RJ14, "appendNull", "()Ljava/lang/AbstractStringBuilder;"⟩
def dkwJ14_appendNull_3 : List UInt8 := [184, 0, 226, 60, 42, 27, 181, 0, 79, 42, 176]
abbrev dktJ14_appendNull_3 : List UInt8 := dkwJ14_appendNull_3 ++ []
def dkwJ14_appendNull_2 : List UInt8 := [16, 108, 84, 44, 27, 132, 1, 1, 16, 108, 84, 167, 0, 17, 44, 27, 16, 110, 16, 117, 16, 108, 16, 108]
abbrev dktJ14_appendNull_2 : List UInt8 := dkwJ14_appendNull_2 ++ dktJ14_appendNull_3
def dkwJ14_appendNull_1 : List UInt8 := [153, 0, 38, 44, 27, 132, 1, 1, 16, 110, 84, 44, 27, 132, 1, 1, 16, 117, 84, 44, 27, 132, 1, 1]
abbrev dktJ14_appendNull_1 : List UInt8 := dkwJ14_appendNull_1 ++ dktJ14_appendNull_2
def dkwJ14_appendNull_0 : List UInt8 := [42, 42, 180, 0, 79, 7, 96, 182, 0, 100, 42, 180, 0, 79, 60, 42, 180, 0, 15, 77, 42, 182, 0, 83]
abbrev dktJ14_appendNull_0 : List UInt8 := dkwJ14_appendNull_0 ++ dktJ14_appendNull_1
theorem dksJ14_appendNull_0 : cJ14_appendNull.data.toList.drop 0 = dktJ14_appendNull_0 := by decide +kernel
theorem dksJ14_appendNull_1 : cJ14_appendNull.data.toList.drop 24 = dktJ14_appendNull_1 := dk_seg dksJ14_appendNull_0 24 rfl rfl
theorem dksJ14_appendNull_2 : cJ14_appendNull.data.toList.drop 48 = dktJ14_appendNull_2 := dk_seg dksJ14_appendNull_1 24 rfl rfl
theorem dksJ14_appendNull_3 : cJ14_appendNull.data.toList.drop 72 = dktJ14_appendNull_3 := dk_seg dksJ14_appendNull_2 24 rfl rfl
theorem dJ14_appendNull_0 : decode cJ14_appendNull 0 = .ok (.aload_n 0, 1) := dk_42 (dk_at dksJ14_appendNull_0 0 rfl rfl)
theorem dJ14_appendNull_1 : decode cJ14_appendNull 1 = .ok (.aload_n 0, 1) := dk_42 (dk_at dksJ14_appendNull_0 1 rfl rfl)
theorem dJ14_appendNull_2 : decode cJ14_appendNull 2 = .ok (.getfield 79, 3) := dk_180 0 79 (dk_at dksJ14_appendNull_0 2 rfl rfl)
theorem dJ14_appendNull_5 : decode cJ14_appendNull 5 = .ok (.iconst 4, 1) := dk_7 (dk_at dksJ14_appendNull_0 5 rfl rfl)
theorem dJ14_appendNull_6 : decode cJ14_appendNull 6 = .ok (.iadd, 1) := dk_96 (dk_at dksJ14_appendNull_0 6 rfl rfl)
theorem dJ14_appendNull_7 : decode cJ14_appendNull 7 = .ok (.invokevirtual 100, 3) := dk_182 0 100 (dk_at dksJ14_appendNull_0 7 rfl rfl)
theorem dJ14_appendNull_10 : decode cJ14_appendNull 10 = .ok (.aload_n 0, 1) := dk_42 (dk_at dksJ14_appendNull_0 10 rfl rfl)
theorem dJ14_appendNull_11 : decode cJ14_appendNull 11 = .ok (.getfield 79, 3) := dk_180 0 79 (dk_at dksJ14_appendNull_0 11 rfl rfl)
theorem dJ14_appendNull_14 : decode cJ14_appendNull 14 = .ok (.istore_n 1, 1) := dk_60 (dk_at dksJ14_appendNull_0 14 rfl rfl)
theorem dJ14_appendNull_15 : decode cJ14_appendNull 15 = .ok (.aload_n 0, 1) := dk_42 (dk_at dksJ14_appendNull_0 15 rfl rfl)
theorem dJ14_appendNull_16 : decode cJ14_appendNull 16 = .ok (.getfield 15, 3) := dk_180 0 15 (dk_at dksJ14_appendNull_0 16 rfl rfl)
theorem dJ14_appendNull_19 : decode cJ14_appendNull 19 = .ok (.astore_n 2, 1) := dk_77 (dk_at dksJ14_appendNull_0 19 rfl rfl)
theorem dJ14_appendNull_20 : decode cJ14_appendNull 20 = .ok (.aload_n 0, 1) := dk_42 (dk_at dksJ14_appendNull_0 20 rfl rfl)
theorem dJ14_appendNull_21 : decode cJ14_appendNull 21 = .ok (.invokevirtual 83, 3) := dk_182 0 83 (dk_at dksJ14_appendNull_0 21 rfl rfl)
theorem dJ14_appendNull_24 : decode cJ14_appendNull 24 = .ok (.ifCond .eq 38, 3) := dk_153 0 38 (dk_at dksJ14_appendNull_1 0 rfl rfl)
theorem dJ14_appendNull_27 : decode cJ14_appendNull 27 = .ok (.aload_n 2, 1) := dk_44 (dk_at dksJ14_appendNull_1 3 rfl rfl)
theorem dJ14_appendNull_28 : decode cJ14_appendNull 28 = .ok (.iload_n 1, 1) := dk_27 (dk_at dksJ14_appendNull_1 4 rfl rfl)
theorem dJ14_appendNull_29 : decode cJ14_appendNull 29 = .ok (.iinc 1 1, 3) := dk_132 1 1 (dk_at dksJ14_appendNull_1 5 rfl rfl)
theorem dJ14_appendNull_32 : decode cJ14_appendNull 32 = .ok (.bipush 110, 2) := dk_16 110 (dk_at dksJ14_appendNull_1 8 rfl rfl)
theorem dJ14_appendNull_34 : decode cJ14_appendNull 34 = .ok (.bastore, 1) := dk_84 (dk_at dksJ14_appendNull_1 10 rfl rfl)
theorem dJ14_appendNull_35 : decode cJ14_appendNull 35 = .ok (.aload_n 2, 1) := dk_44 (dk_at dksJ14_appendNull_1 11 rfl rfl)
theorem dJ14_appendNull_36 : decode cJ14_appendNull 36 = .ok (.iload_n 1, 1) := dk_27 (dk_at dksJ14_appendNull_1 12 rfl rfl)
theorem dJ14_appendNull_37 : decode cJ14_appendNull 37 = .ok (.iinc 1 1, 3) := dk_132 1 1 (dk_at dksJ14_appendNull_1 13 rfl rfl)
theorem dJ14_appendNull_40 : decode cJ14_appendNull 40 = .ok (.bipush 117, 2) := dk_16 117 (dk_at dksJ14_appendNull_1 16 rfl rfl)
theorem dJ14_appendNull_42 : decode cJ14_appendNull 42 = .ok (.bastore, 1) := dk_84 (dk_at dksJ14_appendNull_1 18 rfl rfl)
theorem dJ14_appendNull_43 : decode cJ14_appendNull 43 = .ok (.aload_n 2, 1) := dk_44 (dk_at dksJ14_appendNull_1 19 rfl rfl)
theorem dJ14_appendNull_44 : decode cJ14_appendNull 44 = .ok (.iload_n 1, 1) := dk_27 (dk_at dksJ14_appendNull_1 20 rfl rfl)
theorem dJ14_appendNull_45 : decode cJ14_appendNull 45 = .ok (.iinc 1 1, 3) := dk_132 1 1 (dk_at dksJ14_appendNull_1 21 rfl rfl)
theorem dJ14_appendNull_48 : decode cJ14_appendNull 48 = .ok (.bipush 108, 2) := dk_16 108 (dk_at dksJ14_appendNull_2 0 rfl rfl)
theorem dJ14_appendNull_50 : decode cJ14_appendNull 50 = .ok (.bastore, 1) := dk_84 (dk_at dksJ14_appendNull_2 2 rfl rfl)
theorem dJ14_appendNull_51 : decode cJ14_appendNull 51 = .ok (.aload_n 2, 1) := dk_44 (dk_at dksJ14_appendNull_2 3 rfl rfl)
theorem dJ14_appendNull_52 : decode cJ14_appendNull 52 = .ok (.iload_n 1, 1) := dk_27 (dk_at dksJ14_appendNull_2 4 rfl rfl)
theorem dJ14_appendNull_53 : decode cJ14_appendNull 53 = .ok (.iinc 1 1, 3) := dk_132 1 1 (dk_at dksJ14_appendNull_2 5 rfl rfl)
theorem dJ14_appendNull_56 : decode cJ14_appendNull 56 = .ok (.bipush 108, 2) := dk_16 108 (dk_at dksJ14_appendNull_2 8 rfl rfl)
theorem dJ14_appendNull_58 : decode cJ14_appendNull 58 = .ok (.bastore, 1) := dk_84 (dk_at dksJ14_appendNull_2 10 rfl rfl)
theorem dJ14_appendNull_59 : decode cJ14_appendNull 59 = .ok (.goto 17, 3) := dk_167 0 17 (dk_at dksJ14_appendNull_2 11 rfl rfl)
theorem dJ14_appendNull_62 : decode cJ14_appendNull 62 = .ok (.aload_n 2, 1) := dk_44 (dk_at dksJ14_appendNull_2 14 rfl rfl)
theorem dJ14_appendNull_63 : decode cJ14_appendNull 63 = .ok (.iload_n 1, 1) := dk_27 (dk_at dksJ14_appendNull_2 15 rfl rfl)
theorem dJ14_appendNull_64 : decode cJ14_appendNull 64 = .ok (.bipush 110, 2) := dk_16 110 (dk_at dksJ14_appendNull_2 16 rfl rfl)
theorem dJ14_appendNull_66 : decode cJ14_appendNull 66 = .ok (.bipush 117, 2) := dk_16 117 (dk_at dksJ14_appendNull_2 18 rfl rfl)
theorem dJ14_appendNull_68 : decode cJ14_appendNull 68 = .ok (.bipush 108, 2) := dk_16 108 (dk_at dksJ14_appendNull_2 20 rfl rfl)
theorem dJ14_appendNull_70 : decode cJ14_appendNull 70 = .ok (.bipush 108, 2) := dk_16 108 (dk_at dksJ14_appendNull_2 22 rfl rfl)
theorem dJ14_appendNull_72 : decode cJ14_appendNull 72 = .ok (.invokestatic 226, 3) := dk_184 0 226 (dk_at dksJ14_appendNull_3 0 rfl rfl)
theorem dJ14_appendNull_75 : decode cJ14_appendNull 75 = .ok (.istore_n 1, 1) := dk_60 (dk_at dksJ14_appendNull_3 3 rfl rfl)
theorem dJ14_appendNull_76 : decode cJ14_appendNull 76 = .ok (.aload_n 0, 1) := dk_42 (dk_at dksJ14_appendNull_3 4 rfl rfl)
theorem dJ14_appendNull_77 : decode cJ14_appendNull 77 = .ok (.iload_n 1, 1) := dk_27 (dk_at dksJ14_appendNull_3 5 rfl rfl)
theorem dJ14_appendNull_78 : decode cJ14_appendNull 78 = .ok (.putfield 79, 3) := dk_181 0 79 (dk_at dksJ14_appendNull_3 6 rfl rfl)
theorem dJ14_appendNull_81 : decode cJ14_appendNull 81 = .ok (.aload_n 0, 1) := dk_42 (dk_at dksJ14_appendNull_3 9 rfl rfl)
theorem dJ14_appendNull_82 : decode cJ14_appendNull 82 = .ok (.areturn, 1) := dk_176 (dk_at dksJ14_appendNull_3 10 rfl rfl)
abbrev cJ14_ensureCapacityInternal : ByteArray := prog_22_method_9_code
def yJ14_ensureCapacityInternal : MethodName := ⟨RJ14, "ensureCapacityInternal", "(I)V"⟩
def dkwJ14_ensureCapacityInternal_1 : List UInt8 := [182, 0, 104, 42, 180, 0, 22, 120, 184, 0, 108, 181, 0, 15, 177]
abbrev dktJ14_ensureCapacityInternal_1 : List UInt8 := dkwJ14_ensureCapacityInternal_1 ++ []
def dkwJ14_ensureCapacityInternal_0 : List UInt8 := [42, 180, 0, 15, 190, 42, 180, 0, 22, 122, 61, 27, 28, 100, 158, 0, 24, 42, 42, 180, 0, 15, 42, 27]
abbrev dktJ14_ensureCapacityInternal_0 : List UInt8 := dkwJ14_ensureCapacityInternal_0 ++ dktJ14_ensureCapacityInternal_1
theorem dksJ14_ensureCapacityInternal_0 : cJ14_ensureCapacityInternal.data.toList.drop 0 = dktJ14_ensureCapacityInternal_0 := by decide +kernel
theorem dksJ14_ensureCapacityInternal_1 : cJ14_ensureCapacityInternal.data.toList.drop 24 = dktJ14_ensureCapacityInternal_1 := dk_seg dksJ14_ensureCapacityInternal_0 24 rfl rfl
theorem dJ14_ensureCapacityInternal_0 : decode cJ14_ensureCapacityInternal 0 = .ok (.aload_n 0, 1) := dk_42 (dk_at dksJ14_ensureCapacityInternal_0 0 rfl rfl)
theorem dJ14_ensureCapacityInternal_1 : decode cJ14_ensureCapacityInternal 1 = .ok (.getfield 15, 3) := dk_180 0 15 (dk_at dksJ14_ensureCapacityInternal_0 1 rfl rfl)
theorem dJ14_ensureCapacityInternal_4 : decode cJ14_ensureCapacityInternal 4 = .ok (.arraylength, 1) := dk_190 (dk_at dksJ14_ensureCapacityInternal_0 4 rfl rfl)
theorem dJ14_ensureCapacityInternal_5 : decode cJ14_ensureCapacityInternal 5 = .ok (.aload_n 0, 1) := dk_42 (dk_at dksJ14_ensureCapacityInternal_0 5 rfl rfl)
theorem dJ14_ensureCapacityInternal_6 : decode cJ14_ensureCapacityInternal 6 = .ok (.getfield 22, 3) := dk_180 0 22 (dk_at dksJ14_ensureCapacityInternal_0 6 rfl rfl)
theorem dJ14_ensureCapacityInternal_9 : decode cJ14_ensureCapacityInternal 9 = .ok (.ishr, 1) := dk_122 (dk_at dksJ14_ensureCapacityInternal_0 9 rfl rfl)
theorem dJ14_ensureCapacityInternal_10 : decode cJ14_ensureCapacityInternal 10 = .ok (.istore_n 2, 1) := dk_61 (dk_at dksJ14_ensureCapacityInternal_0 10 rfl rfl)
theorem dJ14_ensureCapacityInternal_11 : decode cJ14_ensureCapacityInternal 11 = .ok (.iload_n 1, 1) := dk_27 (dk_at dksJ14_ensureCapacityInternal_0 11 rfl rfl)
theorem dJ14_ensureCapacityInternal_12 : decode cJ14_ensureCapacityInternal 12 = .ok (.iload_n 2, 1) := dk_28 (dk_at dksJ14_ensureCapacityInternal_0 12 rfl rfl)
theorem dJ14_ensureCapacityInternal_13 : decode cJ14_ensureCapacityInternal 13 = .ok (.isub, 1) := dk_100 (dk_at dksJ14_ensureCapacityInternal_0 13 rfl rfl)
theorem dJ14_ensureCapacityInternal_14 : decode cJ14_ensureCapacityInternal 14 = .ok (.ifCond .le 24, 3) := dk_158 0 24 (dk_at dksJ14_ensureCapacityInternal_0 14 rfl rfl)
theorem dJ14_ensureCapacityInternal_17 : decode cJ14_ensureCapacityInternal 17 = .ok (.aload_n 0, 1) := dk_42 (dk_at dksJ14_ensureCapacityInternal_0 17 rfl rfl)
theorem dJ14_ensureCapacityInternal_18 : decode cJ14_ensureCapacityInternal 18 = .ok (.aload_n 0, 1) := dk_42 (dk_at dksJ14_ensureCapacityInternal_0 18 rfl rfl)
theorem dJ14_ensureCapacityInternal_19 : decode cJ14_ensureCapacityInternal 19 = .ok (.getfield 15, 3) := dk_180 0 15 (dk_at dksJ14_ensureCapacityInternal_0 19 rfl rfl)
theorem dJ14_ensureCapacityInternal_22 : decode cJ14_ensureCapacityInternal 22 = .ok (.aload_n 0, 1) := dk_42 (dk_at dksJ14_ensureCapacityInternal_0 22 rfl rfl)
theorem dJ14_ensureCapacityInternal_23 : decode cJ14_ensureCapacityInternal 23 = .ok (.iload_n 1, 1) := dk_27 (dk_at dksJ14_ensureCapacityInternal_0 23 rfl rfl)
theorem dJ14_ensureCapacityInternal_24 : decode cJ14_ensureCapacityInternal 24 = .ok (.invokevirtual 104, 3) := dk_182 0 104 (dk_at dksJ14_ensureCapacityInternal_1 0 rfl rfl)
theorem dJ14_ensureCapacityInternal_27 : decode cJ14_ensureCapacityInternal 27 = .ok (.aload_n 0, 1) := dk_42 (dk_at dksJ14_ensureCapacityInternal_1 3 rfl rfl)
theorem dJ14_ensureCapacityInternal_28 : decode cJ14_ensureCapacityInternal 28 = .ok (.getfield 22, 3) := dk_180 0 22 (dk_at dksJ14_ensureCapacityInternal_1 4 rfl rfl)
theorem dJ14_ensureCapacityInternal_31 : decode cJ14_ensureCapacityInternal 31 = .ok (.ishl, 1) := dk_120 (dk_at dksJ14_ensureCapacityInternal_1 7 rfl rfl)
theorem dJ14_ensureCapacityInternal_32 : decode cJ14_ensureCapacityInternal 32 = .ok (.invokestatic 108, 3) := dk_184 0 108 (dk_at dksJ14_ensureCapacityInternal_1 8 rfl rfl)
theorem dJ14_ensureCapacityInternal_35 : decode cJ14_ensureCapacityInternal 35 = .ok (.putfield 15, 3) := dk_181 0 15 (dk_at dksJ14_ensureCapacityInternal_1 11 rfl rfl)
theorem dJ14_ensureCapacityInternal_38 : decode cJ14_ensureCapacityInternal 38 = .ok (.return_, 1) := dk_177 (dk_at dksJ14_ensureCapacityInternal_1 14 rfl rfl)
abbrev cJ14_newCapacity : ByteArray := prog_22_method_10_code
def yJ14_newCapacity : MethodName := ⟨RJ14, "newCapacity", "(I)I"⟩
def dkwJ14_newCapacity_2 : List UInt8 := [183, 0, 124, 191, 21, 5, 42, 180, 0, 22, 122, 172]
abbrev dktJ14_newCapacity_2 : List UInt8 := dkwJ14_newCapacity_2 ++ []
def dkwJ14_newCapacity_1 : List UInt8 := [180, 0, 22, 120, 96, 184, 0, 114, 54, 5, 21, 5, 18, 39, 160, 0, 13, 187, 0, 120, 89, 18, 122]
abbrev dktJ14_newCapacity_1 : List UInt8 := dkwJ14_newCapacity_1 ++ dktJ14_newCapacity_2
def dkwJ14_newCapacity_0 : List UInt8 := [42, 180, 0, 15, 190, 61, 27, 42, 180, 0, 22, 120, 62, 29, 28, 100, 54, 4, 28, 21, 4, 28, 5, 42]
abbrev dktJ14_newCapacity_0 : List UInt8 := dkwJ14_newCapacity_0 ++ dktJ14_newCapacity_1
theorem dksJ14_newCapacity_0 : cJ14_newCapacity.data.toList.drop 0 = dktJ14_newCapacity_0 := by decide +kernel
theorem dksJ14_newCapacity_1 : cJ14_newCapacity.data.toList.drop 24 = dktJ14_newCapacity_1 := dk_seg dksJ14_newCapacity_0 24 rfl rfl
theorem dksJ14_newCapacity_2 : cJ14_newCapacity.data.toList.drop 47 = dktJ14_newCapacity_2 := dk_seg dksJ14_newCapacity_1 23 rfl rfl
theorem dJ14_newCapacity_0 : decode cJ14_newCapacity 0 = .ok (.aload_n 0, 1) := dk_42 (dk_at dksJ14_newCapacity_0 0 rfl rfl)
theorem dJ14_newCapacity_1 : decode cJ14_newCapacity 1 = .ok (.getfield 15, 3) := dk_180 0 15 (dk_at dksJ14_newCapacity_0 1 rfl rfl)
theorem dJ14_newCapacity_4 : decode cJ14_newCapacity 4 = .ok (.arraylength, 1) := dk_190 (dk_at dksJ14_newCapacity_0 4 rfl rfl)
theorem dJ14_newCapacity_5 : decode cJ14_newCapacity 5 = .ok (.istore_n 2, 1) := dk_61 (dk_at dksJ14_newCapacity_0 5 rfl rfl)
theorem dJ14_newCapacity_6 : decode cJ14_newCapacity 6 = .ok (.iload_n 1, 1) := dk_27 (dk_at dksJ14_newCapacity_0 6 rfl rfl)
theorem dJ14_newCapacity_7 : decode cJ14_newCapacity 7 = .ok (.aload_n 0, 1) := dk_42 (dk_at dksJ14_newCapacity_0 7 rfl rfl)
theorem dJ14_newCapacity_8 : decode cJ14_newCapacity 8 = .ok (.getfield 22, 3) := dk_180 0 22 (dk_at dksJ14_newCapacity_0 8 rfl rfl)
theorem dJ14_newCapacity_11 : decode cJ14_newCapacity 11 = .ok (.ishl, 1) := dk_120 (dk_at dksJ14_newCapacity_0 11 rfl rfl)
theorem dJ14_newCapacity_12 : decode cJ14_newCapacity 12 = .ok (.istore_n 3, 1) := dk_62 (dk_at dksJ14_newCapacity_0 12 rfl rfl)
theorem dJ14_newCapacity_13 : decode cJ14_newCapacity 13 = .ok (.iload_n 3, 1) := dk_29 (dk_at dksJ14_newCapacity_0 13 rfl rfl)
theorem dJ14_newCapacity_14 : decode cJ14_newCapacity 14 = .ok (.iload_n 2, 1) := dk_28 (dk_at dksJ14_newCapacity_0 14 rfl rfl)
theorem dJ14_newCapacity_15 : decode cJ14_newCapacity 15 = .ok (.isub, 1) := dk_100 (dk_at dksJ14_newCapacity_0 15 rfl rfl)
theorem dJ14_newCapacity_16 : decode cJ14_newCapacity 16 = .ok (.istore 4, 2) := dk_54 4 (dk_at dksJ14_newCapacity_0 16 rfl rfl)
theorem dJ14_newCapacity_18 : decode cJ14_newCapacity 18 = .ok (.iload_n 2, 1) := dk_28 (dk_at dksJ14_newCapacity_0 18 rfl rfl)
theorem dJ14_newCapacity_19 : decode cJ14_newCapacity 19 = .ok (.iload 4, 2) := dk_21 4 (dk_at dksJ14_newCapacity_0 19 rfl rfl)
theorem dJ14_newCapacity_21 : decode cJ14_newCapacity 21 = .ok (.iload_n 2, 1) := dk_28 (dk_at dksJ14_newCapacity_0 21 rfl rfl)
theorem dJ14_newCapacity_22 : decode cJ14_newCapacity 22 = .ok (.iconst 2, 1) := dk_5 (dk_at dksJ14_newCapacity_0 22 rfl rfl)
theorem dJ14_newCapacity_23 : decode cJ14_newCapacity 23 = .ok (.aload_n 0, 1) := dk_42 (dk_at dksJ14_newCapacity_0 23 rfl rfl)
theorem dJ14_newCapacity_24 : decode cJ14_newCapacity 24 = .ok (.getfield 22, 3) := dk_180 0 22 (dk_at dksJ14_newCapacity_1 0 rfl rfl)
theorem dJ14_newCapacity_27 : decode cJ14_newCapacity 27 = .ok (.ishl, 1) := dk_120 (dk_at dksJ14_newCapacity_1 3 rfl rfl)
theorem dJ14_newCapacity_28 : decode cJ14_newCapacity 28 = .ok (.iadd, 1) := dk_96 (dk_at dksJ14_newCapacity_1 4 rfl rfl)
theorem dJ14_newCapacity_29 : decode cJ14_newCapacity 29 = .ok (.invokestatic 114, 3) := dk_184 0 114 (dk_at dksJ14_newCapacity_1 5 rfl rfl)
theorem dJ14_newCapacity_32 : decode cJ14_newCapacity 32 = .ok (.istore 5, 2) := dk_54 5 (dk_at dksJ14_newCapacity_1 8 rfl rfl)
theorem dJ14_newCapacity_34 : decode cJ14_newCapacity 34 = .ok (.iload 5, 2) := dk_21 5 (dk_at dksJ14_newCapacity_1 10 rfl rfl)
theorem dJ14_newCapacity_36 : decode cJ14_newCapacity 36 = .ok (.ldc 39, 2) := dk_18 39 (dk_at dksJ14_newCapacity_1 12 rfl rfl)
theorem dJ14_newCapacity_38 : decode cJ14_newCapacity 38 = .ok (.if_icmp .ne 13, 3) := dk_160 0 13 (dk_at dksJ14_newCapacity_1 14 rfl rfl)
theorem dJ14_newCapacity_41 : decode cJ14_newCapacity 41 = .ok (.new 120, 3) := dk_187 0 120 (dk_at dksJ14_newCapacity_1 17 rfl rfl)
theorem dJ14_newCapacity_44 : decode cJ14_newCapacity 44 = .ok (.dup, 1) := dk_89 (dk_at dksJ14_newCapacity_1 20 rfl rfl)
theorem dJ14_newCapacity_45 : decode cJ14_newCapacity 45 = .ok (.ldc 122, 2) := dk_18 122 (dk_at dksJ14_newCapacity_1 21 rfl rfl)
theorem dJ14_newCapacity_47 : decode cJ14_newCapacity 47 = .ok (.invokespecial 124, 3) := dk_183 0 124 (dk_at dksJ14_newCapacity_2 0 rfl rfl)
theorem dJ14_newCapacity_50 : decode cJ14_newCapacity 50 = .ok (.athrow, 1) := dk_191 (dk_at dksJ14_newCapacity_2 3 rfl rfl)
theorem dJ14_newCapacity_51 : decode cJ14_newCapacity 51 = .ok (.iload 5, 2) := dk_21 5 (dk_at dksJ14_newCapacity_2 4 rfl rfl)
theorem dJ14_newCapacity_53 : decode cJ14_newCapacity 53 = .ok (.aload_n 0, 1) := dk_42 (dk_at dksJ14_newCapacity_2 6 rfl rfl)
theorem dJ14_newCapacity_54 : decode cJ14_newCapacity 54 = .ok (.getfield 22, 3) := dk_180 0 22 (dk_at dksJ14_newCapacity_2 7 rfl rfl)
theorem dJ14_newCapacity_57 : decode cJ14_newCapacity 57 = .ok (.ishr, 1) := dk_122 (dk_at dksJ14_newCapacity_2 10 rfl rfl)
theorem dJ14_newCapacity_58 : decode cJ14_newCapacity 58 = .ok (.ireturn, 1) := dk_172 (dk_at dksJ14_newCapacity_2 11 rfl rfl)
abbrev cJ14_isLatin1 : ByteArray := prog_22_method_68_code
def yJ14_isLatin1 : MethodName := ⟨RJ14, "isLatin1", "()Z"⟩
def dkwJ14_isLatin1_0 : List UInt8 := [178, 0, 18, 153, 0, 14, 42, 180, 0, 22, 154, 0, 7, 4, 167, 0, 4, 3, 172]
abbrev dktJ14_isLatin1_0 : List UInt8 := dkwJ14_isLatin1_0 ++ []
theorem dksJ14_isLatin1_0 : cJ14_isLatin1.data.toList.drop 0 = dktJ14_isLatin1_0 := by decide +kernel
theorem dJ14_isLatin1_0 : decode cJ14_isLatin1 0 = .ok (.getstatic 18, 3) := dk_178 0 18 (dk_at dksJ14_isLatin1_0 0 rfl rfl)
theorem dJ14_isLatin1_3 : decode cJ14_isLatin1 3 = .ok (.ifCond .eq 14, 3) := dk_153 0 14 (dk_at dksJ14_isLatin1_0 3 rfl rfl)
theorem dJ14_isLatin1_6 : decode cJ14_isLatin1 6 = .ok (.aload_n 0, 1) := dk_42 (dk_at dksJ14_isLatin1_0 6 rfl rfl)
theorem dJ14_isLatin1_7 : decode cJ14_isLatin1 7 = .ok (.getfield 22, 3) := dk_180 0 22 (dk_at dksJ14_isLatin1_0 7 rfl rfl)
theorem dJ14_isLatin1_10 : decode cJ14_isLatin1 10 = .ok (.ifCond .ne 7, 3) := dk_154 0 7 (dk_at dksJ14_isLatin1_0 10 rfl rfl)
theorem dJ14_isLatin1_13 : decode cJ14_isLatin1 13 = .ok (.iconst 1, 1) := dk_4 (dk_at dksJ14_isLatin1_0 13 rfl rfl)
theorem dJ14_isLatin1_14 : decode cJ14_isLatin1 14 = .ok (.goto 4, 3) := dk_167 0 4 (dk_at dksJ14_isLatin1_0 14 rfl rfl)
theorem dJ14_isLatin1_17 : decode cJ14_isLatin1 17 = .ok (.iconst 0, 1) := dk_3 (dk_at dksJ14_isLatin1_0 17 rfl rfl)
theorem dJ14_isLatin1_18 : decode cJ14_isLatin1 18 = .ok (.ireturn, 1) := dk_172 (dk_at dksJ14_isLatin1_0 18 rfl rfl)
abbrev cJ14_putStringAt : ByteArray := prog_22_method_73_code
def yJ14_putStringAt : MethodName := ⟨RJ14, "putStringAt", "(ILjava/lang/String;)V"⟩
def dkwJ14_putStringAt_0 : List UInt8 := [42, 44, 182, 1, 141, 44, 42, 180, 0, 15, 27, 42, 180, 0, 22, 182, 1, 143, 177]
abbrev dktJ14_putStringAt_0 : List UInt8 := dkwJ14_putStringAt_0 ++ []
theorem dksJ14_putStringAt_0 : cJ14_putStringAt.data.toList.drop 0 = dktJ14_putStringAt_0 := by decide +kernel
theorem dJ14_putStringAt_0 : decode cJ14_putStringAt 0 = .ok (.aload_n 0, 1) := dk_42 (dk_at dksJ14_putStringAt_0 0 rfl rfl)
theorem dJ14_putStringAt_1 : decode cJ14_putStringAt 1 = .ok (.aload_n 2, 1) := dk_44 (dk_at dksJ14_putStringAt_0 1 rfl rfl)
theorem dJ14_putStringAt_2 : decode cJ14_putStringAt 2 = .ok (.invokevirtual 397, 3) := dk_182 1 141 (dk_at dksJ14_putStringAt_0 2 rfl rfl)
theorem dJ14_putStringAt_5 : decode cJ14_putStringAt 5 = .ok (.aload_n 2, 1) := dk_44 (dk_at dksJ14_putStringAt_0 5 rfl rfl)
theorem dJ14_putStringAt_6 : decode cJ14_putStringAt 6 = .ok (.aload_n 0, 1) := dk_42 (dk_at dksJ14_putStringAt_0 6 rfl rfl)
theorem dJ14_putStringAt_7 : decode cJ14_putStringAt 7 = .ok (.getfield 15, 3) := dk_180 0 15 (dk_at dksJ14_putStringAt_0 7 rfl rfl)
theorem dJ14_putStringAt_10 : decode cJ14_putStringAt 10 = .ok (.iload_n 1, 1) := dk_27 (dk_at dksJ14_putStringAt_0 10 rfl rfl)
theorem dJ14_putStringAt_11 : decode cJ14_putStringAt 11 = .ok (.aload_n 0, 1) := dk_42 (dk_at dksJ14_putStringAt_0 11 rfl rfl)
theorem dJ14_putStringAt_12 : decode cJ14_putStringAt 12 = .ok (.getfield 22, 3) := dk_180 0 22 (dk_at dksJ14_putStringAt_0 12 rfl rfl)
theorem dJ14_putStringAt_15 : decode cJ14_putStringAt 15 = .ok (.invokevirtual 399, 3) := dk_182 1 143 (dk_at dksJ14_putStringAt_0 15 rfl rfl)
theorem dJ14_putStringAt_18 : decode cJ14_putStringAt 18 = .ok (.return_, 1) := dk_177 (dk_at dksJ14_putStringAt_0 18 rfl rfl)
abbrev cJ14_inflateIfNeededFor : ByteArray := prog_22_method_71_code
def yJ14_inflateIfNeededFor : MethodName := ⟨RJ14, "inflateIfNeededFor", "(Ljava/lang/String;)V"⟩
def dkwJ14_inflateIfNeededFor_0 : List UInt8 := [178, 0, 18, 153, 0, 18, 42, 180, 0, 22, 43, 182, 0, 40, 159, 0, 7, 42, 182, 0, 195, 177]
abbrev dktJ14_inflateIfNeededFor_0 : List UInt8 := dkwJ14_inflateIfNeededFor_0 ++ []
theorem dksJ14_inflateIfNeededFor_0 : cJ14_inflateIfNeededFor.data.toList.drop 0 = dktJ14_inflateIfNeededFor_0 := by decide +kernel
theorem dJ14_inflateIfNeededFor_0 : decode cJ14_inflateIfNeededFor 0 = .ok (.getstatic 18, 3) := dk_178 0 18 (dk_at dksJ14_inflateIfNeededFor_0 0 rfl rfl)
theorem dJ14_inflateIfNeededFor_3 : decode cJ14_inflateIfNeededFor 3 = .ok (.ifCond .eq 18, 3) := dk_153 0 18 (dk_at dksJ14_inflateIfNeededFor_0 3 rfl rfl)
theorem dJ14_inflateIfNeededFor_6 : decode cJ14_inflateIfNeededFor 6 = .ok (.aload_n 0, 1) := dk_42 (dk_at dksJ14_inflateIfNeededFor_0 6 rfl rfl)
theorem dJ14_inflateIfNeededFor_7 : decode cJ14_inflateIfNeededFor 7 = .ok (.getfield 22, 3) := dk_180 0 22 (dk_at dksJ14_inflateIfNeededFor_0 7 rfl rfl)
theorem dJ14_inflateIfNeededFor_10 : decode cJ14_inflateIfNeededFor 10 = .ok (.aload_n 1, 1) := dk_43 (dk_at dksJ14_inflateIfNeededFor_0 10 rfl rfl)
theorem dJ14_inflateIfNeededFor_11 : decode cJ14_inflateIfNeededFor 11 = .ok (.invokevirtual 40, 3) := dk_182 0 40 (dk_at dksJ14_inflateIfNeededFor_0 11 rfl rfl)
theorem dJ14_inflateIfNeededFor_14 : decode cJ14_inflateIfNeededFor 14 = .ok (.if_icmp .eq 7, 3) := dk_159 0 7 (dk_at dksJ14_inflateIfNeededFor_0 14 rfl rfl)
theorem dJ14_inflateIfNeededFor_17 : decode cJ14_inflateIfNeededFor 17 = .ok (.aload_n 0, 1) := dk_42 (dk_at dksJ14_inflateIfNeededFor_0 17 rfl rfl)
theorem dJ14_inflateIfNeededFor_18 : decode cJ14_inflateIfNeededFor 18 = .ok (.invokevirtual 195, 3) := dk_182 0 195 (dk_at dksJ14_inflateIfNeededFor_0 18 rfl rfl)
theorem dJ14_inflateIfNeededFor_21 : decode cJ14_inflateIfNeededFor 21 = .ok (.return_, 1) := dk_177 (dk_at dksJ14_inflateIfNeededFor_0 21 rfl rfl)
abbrev cJ14_inflate : ByteArray := prog_22_method_11_code
def yJ14_inflate : MethodName := ⟨RJ14, "inflate", "()V"⟩
def dkwJ14_inflate_1 : List UInt8 := [42, 180, 0, 79, 184, 0, 125, 42, 43, 181, 0, 15, 42, 4, 181, 0, 22, 177]
abbrev dktJ14_inflate_1 : List UInt8 := dkwJ14_inflate_1 ++ []
def dkwJ14_inflate_0 : List UInt8 := [42, 182, 0, 83, 154, 0, 4, 177, 42, 180, 0, 15, 190, 184, 0, 26, 76, 42, 180, 0, 15, 3, 43, 3]
abbrev dktJ14_inflate_0 : List UInt8 := dkwJ14_inflate_0 ++ dktJ14_inflate_1
theorem dksJ14_inflate_0 : cJ14_inflate.data.toList.drop 0 = dktJ14_inflate_0 := by decide +kernel
theorem dksJ14_inflate_1 : cJ14_inflate.data.toList.drop 24 = dktJ14_inflate_1 := dk_seg dksJ14_inflate_0 24 rfl rfl
theorem dJ14_inflate_0 : decode cJ14_inflate 0 = .ok (.aload_n 0, 1) := dk_42 (dk_at dksJ14_inflate_0 0 rfl rfl)
theorem dJ14_inflate_1 : decode cJ14_inflate 1 = .ok (.invokevirtual 83, 3) := dk_182 0 83 (dk_at dksJ14_inflate_0 1 rfl rfl)
theorem dJ14_inflate_4 : decode cJ14_inflate 4 = .ok (.ifCond .ne 4, 3) := dk_154 0 4 (dk_at dksJ14_inflate_0 4 rfl rfl)
theorem dJ14_inflate_7 : decode cJ14_inflate 7 = .ok (.return_, 1) := dk_177 (dk_at dksJ14_inflate_0 7 rfl rfl)
theorem dJ14_inflate_8 : decode cJ14_inflate 8 = .ok (.aload_n 0, 1) := dk_42 (dk_at dksJ14_inflate_0 8 rfl rfl)
theorem dJ14_inflate_9 : decode cJ14_inflate 9 = .ok (.getfield 15, 3) := dk_180 0 15 (dk_at dksJ14_inflate_0 9 rfl rfl)
theorem dJ14_inflate_12 : decode cJ14_inflate 12 = .ok (.arraylength, 1) := dk_190 (dk_at dksJ14_inflate_0 12 rfl rfl)
theorem dJ14_inflate_13 : decode cJ14_inflate 13 = .ok (.invokestatic 26, 3) := dk_184 0 26 (dk_at dksJ14_inflate_0 13 rfl rfl)
theorem dJ14_inflate_16 : decode cJ14_inflate 16 = .ok (.astore_n 1, 1) := dk_76 (dk_at dksJ14_inflate_0 16 rfl rfl)
theorem dJ14_inflate_17 : decode cJ14_inflate 17 = .ok (.aload_n 0, 1) := dk_42 (dk_at dksJ14_inflate_0 17 rfl rfl)
theorem dJ14_inflate_18 : decode cJ14_inflate 18 = .ok (.getfield 15, 3) := dk_180 0 15 (dk_at dksJ14_inflate_0 18 rfl rfl)
theorem dJ14_inflate_21 : decode cJ14_inflate 21 = .ok (.iconst 0, 1) := dk_3 (dk_at dksJ14_inflate_0 21 rfl rfl)
theorem dJ14_inflate_22 : decode cJ14_inflate 22 = .ok (.aload_n 1, 1) := dk_43 (dk_at dksJ14_inflate_0 22 rfl rfl)
theorem dJ14_inflate_23 : decode cJ14_inflate 23 = .ok (.iconst 0, 1) := dk_3 (dk_at dksJ14_inflate_0 23 rfl rfl)
theorem dJ14_inflate_24 : decode cJ14_inflate 24 = .ok (.aload_n 0, 1) := dk_42 (dk_at dksJ14_inflate_1 0 rfl rfl)
theorem dJ14_inflate_25 : decode cJ14_inflate 25 = .ok (.getfield 79, 3) := dk_180 0 79 (dk_at dksJ14_inflate_1 1 rfl rfl)
theorem dJ14_inflate_28 : decode cJ14_inflate 28 = .ok (.invokestatic 125, 3) := dk_184 0 125 (dk_at dksJ14_inflate_1 4 rfl rfl)
theorem dJ14_inflate_31 : decode cJ14_inflate 31 = .ok (.aload_n 0, 1) := dk_42 (dk_at dksJ14_inflate_1 7 rfl rfl)
theorem dJ14_inflate_32 : decode cJ14_inflate 32 = .ok (.aload_n 1, 1) := dk_43 (dk_at dksJ14_inflate_1 8 rfl rfl)
theorem dJ14_inflate_33 : decode cJ14_inflate 33 = .ok (.putfield 15, 3) := dk_181 0 15 (dk_at dksJ14_inflate_1 9 rfl rfl)
theorem dJ14_inflate_36 : decode cJ14_inflate 36 = .ok (.aload_n 0, 1) := dk_42 (dk_at dksJ14_inflate_1 12 rfl rfl)
theorem dJ14_inflate_37 : decode cJ14_inflate 37 = .ok (.iconst 1, 1) := dk_4 (dk_at dksJ14_inflate_1 13 rfl rfl)
theorem dJ14_inflate_38 : decode cJ14_inflate 38 = .ok (.putfield 22, 3) := dk_181 0 22 (dk_at dksJ14_inflate_1 14 rfl rfl)
theorem dJ14_inflate_41 : decode cJ14_inflate 41 = .ok (.return_, 1) := dk_177 (dk_at dksJ14_inflate_1 17 rfl rfl)
abbrev cJ14_append_2 : ByteArray := prog_22_method_32_code
def yJ14_append_2 : MethodName := ⟨RJ14, "append", "(I)Ljava/lang/AbstractStringBuilder;"⟩
def dkwJ14_append_2_2 : List UInt8 := [42, 29, 181, 0, 79, 42, 176]
abbrev dktJ14_append_2_2 : List UInt8 := dkwJ14_append_2_2 ++ []
def dkwJ14_append_2_1 : List UInt8 := [27, 29, 42, 180, 0, 15, 184, 0, 248, 87, 167, 0, 14, 27, 28, 29, 42, 180, 0, 15, 184, 0, 251, 87]
abbrev dktJ14_append_2_1 : List UInt8 := dkwJ14_append_2_1 ++ dktJ14_append_2_2
def dkwJ14_append_2_0 : List UInt8 := [42, 180, 0, 79, 61, 28, 27, 184, 0, 245, 96, 62, 42, 29, 182, 0, 100, 42, 182, 0, 83, 153, 0, 16]
abbrev dktJ14_append_2_0 : List UInt8 := dkwJ14_append_2_0 ++ dktJ14_append_2_1
theorem dksJ14_append_2_0 : cJ14_append_2.data.toList.drop 0 = dktJ14_append_2_0 := by decide +kernel
theorem dksJ14_append_2_1 : cJ14_append_2.data.toList.drop 24 = dktJ14_append_2_1 := dk_seg dksJ14_append_2_0 24 rfl rfl
theorem dksJ14_append_2_2 : cJ14_append_2.data.toList.drop 48 = dktJ14_append_2_2 := dk_seg dksJ14_append_2_1 24 rfl rfl
theorem dJ14_append_2_0 : decode cJ14_append_2 0 = .ok (.aload_n 0, 1) := dk_42 (dk_at dksJ14_append_2_0 0 rfl rfl)
theorem dJ14_append_2_1 : decode cJ14_append_2 1 = .ok (.getfield 79, 3) := dk_180 0 79 (dk_at dksJ14_append_2_0 1 rfl rfl)
theorem dJ14_append_2_4 : decode cJ14_append_2 4 = .ok (.istore_n 2, 1) := dk_61 (dk_at dksJ14_append_2_0 4 rfl rfl)
theorem dJ14_append_2_5 : decode cJ14_append_2 5 = .ok (.iload_n 2, 1) := dk_28 (dk_at dksJ14_append_2_0 5 rfl rfl)
theorem dJ14_append_2_6 : decode cJ14_append_2 6 = .ok (.iload_n 1, 1) := dk_27 (dk_at dksJ14_append_2_0 6 rfl rfl)
theorem dJ14_append_2_7 : decode cJ14_append_2 7 = .ok (.invokestatic 245, 3) := dk_184 0 245 (dk_at dksJ14_append_2_0 7 rfl rfl)
theorem dJ14_append_2_10 : decode cJ14_append_2 10 = .ok (.iadd, 1) := dk_96 (dk_at dksJ14_append_2_0 10 rfl rfl)
theorem dJ14_append_2_11 : decode cJ14_append_2 11 = .ok (.istore_n 3, 1) := dk_62 (dk_at dksJ14_append_2_0 11 rfl rfl)
theorem dJ14_append_2_12 : decode cJ14_append_2 12 = .ok (.aload_n 0, 1) := dk_42 (dk_at dksJ14_append_2_0 12 rfl rfl)
theorem dJ14_append_2_13 : decode cJ14_append_2 13 = .ok (.iload_n 3, 1) := dk_29 (dk_at dksJ14_append_2_0 13 rfl rfl)
theorem dJ14_append_2_14 : decode cJ14_append_2 14 = .ok (.invokevirtual 100, 3) := dk_182 0 100 (dk_at dksJ14_append_2_0 14 rfl rfl)
theorem dJ14_append_2_17 : decode cJ14_append_2 17 = .ok (.aload_n 0, 1) := dk_42 (dk_at dksJ14_append_2_0 17 rfl rfl)
theorem dJ14_append_2_18 : decode cJ14_append_2 18 = .ok (.invokevirtual 83, 3) := dk_182 0 83 (dk_at dksJ14_append_2_0 18 rfl rfl)
theorem dJ14_append_2_21 : decode cJ14_append_2 21 = .ok (.ifCond .eq 16, 3) := dk_153 0 16 (dk_at dksJ14_append_2_0 21 rfl rfl)
theorem dJ14_append_2_24 : decode cJ14_append_2 24 = .ok (.iload_n 1, 1) := dk_27 (dk_at dksJ14_append_2_1 0 rfl rfl)
theorem dJ14_append_2_25 : decode cJ14_append_2 25 = .ok (.iload_n 3, 1) := dk_29 (dk_at dksJ14_append_2_1 1 rfl rfl)
theorem dJ14_append_2_26 : decode cJ14_append_2 26 = .ok (.aload_n 0, 1) := dk_42 (dk_at dksJ14_append_2_1 2 rfl rfl)
theorem dJ14_append_2_27 : decode cJ14_append_2 27 = .ok (.getfield 15, 3) := dk_180 0 15 (dk_at dksJ14_append_2_1 3 rfl rfl)
theorem dJ14_append_2_30 : decode cJ14_append_2 30 = .ok (.invokestatic 248, 3) := dk_184 0 248 (dk_at dksJ14_append_2_1 6 rfl rfl)
theorem dJ14_append_2_33 : decode cJ14_append_2 33 = .ok (.pop, 1) := dk_87 (dk_at dksJ14_append_2_1 9 rfl rfl)
theorem dJ14_append_2_34 : decode cJ14_append_2 34 = .ok (.goto 14, 3) := dk_167 0 14 (dk_at dksJ14_append_2_1 10 rfl rfl)
theorem dJ14_append_2_37 : decode cJ14_append_2 37 = .ok (.iload_n 1, 1) := dk_27 (dk_at dksJ14_append_2_1 13 rfl rfl)
theorem dJ14_append_2_38 : decode cJ14_append_2 38 = .ok (.iload_n 2, 1) := dk_28 (dk_at dksJ14_append_2_1 14 rfl rfl)
theorem dJ14_append_2_39 : decode cJ14_append_2 39 = .ok (.iload_n 3, 1) := dk_29 (dk_at dksJ14_append_2_1 15 rfl rfl)
theorem dJ14_append_2_40 : decode cJ14_append_2 40 = .ok (.aload_n 0, 1) := dk_42 (dk_at dksJ14_append_2_1 16 rfl rfl)
theorem dJ14_append_2_41 : decode cJ14_append_2 41 = .ok (.getfield 15, 3) := dk_180 0 15 (dk_at dksJ14_append_2_1 17 rfl rfl)
theorem dJ14_append_2_44 : decode cJ14_append_2 44 = .ok (.invokestatic 251, 3) := dk_184 0 251 (dk_at dksJ14_append_2_1 20 rfl rfl)
theorem dJ14_append_2_47 : decode cJ14_append_2 47 = .ok (.pop, 1) := dk_87 (dk_at dksJ14_append_2_1 23 rfl rfl)
theorem dJ14_append_2_48 : decode cJ14_append_2 48 = .ok (.aload_n 0, 1) := dk_42 (dk_at dksJ14_append_2_2 0 rfl rfl)
theorem dJ14_append_2_49 : decode cJ14_append_2 49 = .ok (.iload_n 3, 1) := dk_29 (dk_at dksJ14_append_2_2 1 rfl rfl)
theorem dJ14_append_2_50 : decode cJ14_append_2 50 = .ok (.putfield 79, 3) := dk_181 0 79 (dk_at dksJ14_append_2_2 2 rfl rfl)
theorem dJ14_append_2_53 : decode cJ14_append_2 53 = .ok (.aload_n 0, 1) := dk_42 (dk_at dksJ14_append_2_2 5 rfl rfl)
theorem dJ14_append_2_54 : decode cJ14_append_2 54 = .ok (.areturn, 1) := dk_176 (dk_at dksJ14_append_2_2 6 rfl rfl)
abbrev cJ14_getValue : ByteArray := prog_22_method_64_code
def yJ14_getValue : MethodName := ⟨RJ14, "getValue", "()[B"⟩
theorem dJ14_getValue_0 : decode cJ14_getValue 0 = .ok (.aload_n 0, 1) := by decide +kernel
theorem dJ14_getValue_1 : decode cJ14_getValue 1 = .ok (.getfield 15, 3) := by decide +kernel
theorem dJ14_getValue_4 : decode cJ14_getValue 4 = .ok (.areturn, 1) := by decide +kernel
abbrev cJ14_length : ByteArray := prog_22_method_6_code
def yJ14_length : MethodName := ⟨RJ14, "length", "()I"⟩
theorem dJ14_length_0 : decode cJ14_length 0 = .ok (.aload_n 0, 1) := by decide +kernel
theorem dJ14_length_1 : decode cJ14_length 1 = .ok (.getfield 79, 3) := by decide +kernel
theorem dJ14_length_4 : decode cJ14_length 4 = .ok (.ireturn, 1) := by decide +kernel
theorem q108 : (Jvm.Cond.initialized "java/lang/AbstractStringBuilder") ∈ lw_all := lw_g (lw_at lw_m1 24 rfl) rfl
theorem q675 : (Jvm.Cond.instanceMethod ({ cls := "java/lang/AbstractStringBuilder", name := "<init>", desc := "(I)V" } : Jvm.MethodName)) ∈ lw_all := lw_g (lw_at lw_m3 111 rfl) rfl
theorem q676 : (Jvm.Cond.code ({ cls := "java/lang/AbstractStringBuilder", name := "<init>", desc := "(I)V" } : Jvm.MethodName) prog_22_method_2_code (2 : Nat) (Option.none : Option Jvm.ClassFile.FieldType)) ∈ lw_all := lw_g (lw_at lw_m3 112 rfl) rfl
theorem q677 : (Jvm.Cond.methodLink "java/lang/AbstractStringBuilder" (3 : Nat) ({ cls := "java/lang/Object", name := "<init>", desc := "()V" } : Jvm.MethodName)) ∈ lw_all := lw_g (lw_at lw_m3 113 rfl) rfl
theorem q678 : (Jvm.Cond.fieldLink "java/lang/AbstractStringBuilder" (18 : Nat) "java/lang/String" "COMPACT_STRINGS" "Z") ∈ lw_all := lw_g (lw_at lw_m3 114 rfl) rfl
theorem q680 : (Jvm.Cond.methodLink "java/lang/AbstractStringBuilder" (26 : Nat) ({ cls := "java/lang/StringUTF16", name := "newBytesFor", desc := "(I)[B" } : Jvm.MethodName)) ∈ lw_all := lw_g (lw_at lw_m3 116 rfl) rfl
theorem q687 : (Jvm.Cond.fieldLink "java/lang/AbstractStringBuilder" (15 : Nat) "java/lang/AbstractStringBuilder" "value" "[B") ∈ lw_all := lw_g (lw_at lw_m3 123 rfl) rfl
theorem q688 : (Jvm.Cond.fieldLink "java/lang/AbstractStringBuilder" (22 : Nat) "java/lang/AbstractStringBuilder" "coder" "B") ∈ lw_all := lw_g (lw_at lw_m3 124 rfl) rfl
theorem q690 : (Jvm.Cond.fieldLink "java/lang/AbstractStringBuilder" (79 : Nat) "java/lang/AbstractStringBuilder" "count" "I") ∈ lw_all := lw_g (lw_at lw_m3 126 rfl) rfl
theorem q692 : (Jvm.Cond.soleField "java/lang/AbstractStringBuilder" "value") ∈ lw_all := lw_g (lw_at lw_m3 128 rfl) rfl
theorem q694 : (Jvm.Cond.soleField "java/lang/AbstractStringBuilder" "coder") ∈ lw_all := lw_g (lw_at lw_m3 130 rfl) rfl
theorem q696 : (Jvm.Cond.soleField "java/lang/AbstractStringBuilder" "maybeLatin1") ∈ lw_all := lw_g (lw_at lw_m3 132 rfl) rfl
theorem q698 : (Jvm.Cond.soleField "java/lang/AbstractStringBuilder" "count") ∈ lw_all := lw_g (lw_at lw_m3 134 rfl) rfl
theorem q706 : (Jvm.Cond.instanceMethod ({ cls := "java/lang/AbstractStringBuilder", name := "append", desc := "(Ljava/lang/String;)Ljava/lang/AbstractStringBuilder;" } : Jvm.MethodName)) ∈ lw_all := lw_g (lw_at lw_m3 142 rfl) rfl
theorem q707 : (Jvm.Cond.code ({ cls := "java/lang/AbstractStringBuilder", name := "append", desc := "(Ljava/lang/String;)Ljava/lang/AbstractStringBuilder;" } : Jvm.MethodName) prog_22_method_22_code (3 : Nat) (Option.some (Jvm.ClassFile.FieldType.object "java/lang/AbstractStringBuilder"))) ∈ lw_all := lw_g (lw_at lw_m3 143 rfl) rfl
theorem q708 : (Jvm.Cond.methodLink "java/lang/AbstractStringBuilder" (204 : Nat) ({ cls := "java/lang/AbstractStringBuilder", name := "appendNull", desc := "()Ljava/lang/AbstractStringBuilder;" } : Jvm.MethodName)) ∈ lw_all := lw_g (lw_at lw_m3 144 rfl) rfl
theorem q709 : (Jvm.Cond.privateMethod ({ cls := "java/lang/AbstractStringBuilder", name := "appendNull", desc := "()Ljava/lang/AbstractStringBuilder;" } : Jvm.MethodName)) ∈ lw_tbl := lw_at lw_m3 145 rfl
theorem q710 : (Jvm.Cond.instanceMethod ({ cls := "java/lang/AbstractStringBuilder", name := "appendNull", desc := "()Ljava/lang/AbstractStringBuilder;" } : Jvm.MethodName)) ∈ lw_all := lw_g (lw_at lw_m3 146 rfl) rfl
theorem q711 : (Jvm.Cond.code ({ cls := "java/lang/AbstractStringBuilder", name := "appendNull", desc := "()Ljava/lang/AbstractStringBuilder;" } : Jvm.MethodName) prog_22_method_26_code (3 : Nat) (Option.some (Jvm.ClassFile.FieldType.object "java/lang/AbstractStringBuilder"))) ∈ lw_all := lw_g (lw_at lw_m3 147 rfl) rfl
theorem q712 : (Jvm.Cond.methodLink "java/lang/AbstractStringBuilder" (100 : Nat) ({ cls := "java/lang/AbstractStringBuilder", name := "ensureCapacityInternal", desc := "(I)V" } : Jvm.MethodName)) ∈ lw_all := lw_g (lw_at lw_m3 148 rfl) rfl
theorem q713 : (Jvm.Cond.privateMethod ({ cls := "java/lang/AbstractStringBuilder", name := "ensureCapacityInternal", desc := "(I)V" } : Jvm.MethodName)) ∈ lw_tbl := lw_at lw_m3 149 rfl
theorem q714 : (Jvm.Cond.instanceMethod ({ cls := "java/lang/AbstractStringBuilder", name := "ensureCapacityInternal", desc := "(I)V" } : Jvm.MethodName)) ∈ lw_all := lw_g (lw_at lw_m3 150 rfl) rfl
theorem q715 : (Jvm.Cond.code ({ cls := "java/lang/AbstractStringBuilder", name := "ensureCapacityInternal", desc := "(I)V" } : Jvm.MethodName) prog_22_method_9_code (3 : Nat) (Option.none : Option Jvm.ClassFile.FieldType)) ∈ lw_all := lw_g (lw_at lw_m3 151 rfl) rfl
theorem q716 : (Jvm.Cond.methodLink "java/lang/AbstractStringBuilder" (104 : Nat) ({ cls := "java/lang/AbstractStringBuilder", name := "newCapacity", desc := "(I)I" } : Jvm.MethodName)) ∈ lw_all := lw_g (lw_at lw_m3 152 rfl) rfl
theorem q717 : (Jvm.Cond.privateMethod ({ cls := "java/lang/AbstractStringBuilder", name := "newCapacity", desc := "(I)I" } : Jvm.MethodName)) ∈ lw_tbl := lw_at lw_m3 153 rfl
theorem q718 : (Jvm.Cond.instanceMethod ({ cls := "java/lang/AbstractStringBuilder", name := "newCapacity", desc := "(I)I" } : Jvm.MethodName)) ∈ lw_all := lw_g (lw_at lw_m3 154 rfl) rfl
theorem q719 : (Jvm.Cond.code ({ cls := "java/lang/AbstractStringBuilder", name := "newCapacity", desc := "(I)I" } : Jvm.MethodName) prog_22_method_10_code (6 : Nat) (Option.some Jvm.ClassFile.FieldType.int)) ∈ lw_all := lw_g (lw_at lw_m3 155 rfl) rfl
theorem q720 : (Jvm.Cond.methodLink "java/lang/AbstractStringBuilder" (114 : Nat) ({ cls := "jdk/internal/util/ArraysSupport", name := "newLength", desc := "(III)I" } : Jvm.MethodName)) ∈ lw_all := lw_g (lw_at lw_m3 156 rfl) rfl
theorem q728 : (Jvm.Cond.constant "java/lang/AbstractStringBuilder" (39 : Nat) (2147483647 : Int32)) ∈ lw_all := lw_g (lw_at lw_m3 164 rfl) rfl
theorem q729 : (Jvm.Cond.methodLink "java/lang/AbstractStringBuilder" (108 : Nat) ({ cls := "java/util/Arrays", name := "copyOf", desc := "([BI)[B" } : Jvm.MethodName)) ∈ lw_all := lw_g (lw_at lw_m3 165 rfl) rfl
theorem q743 : (Jvm.Cond.methodLink "java/lang/AbstractStringBuilder" (83 : Nat) ({ cls := "java/lang/AbstractStringBuilder", name := "isLatin1", desc := "()Z" } : Jvm.MethodName)) ∈ lw_all := lw_g (lw_at lw_m3 179 rfl) rfl
theorem q744 : (Jvm.Cond.instanceMethod ({ cls := "java/lang/AbstractStringBuilder", name := "isLatin1", desc := "()Z" } : Jvm.MethodName)) ∈ lw_all := lw_g (lw_at lw_m3 180 rfl) rfl
theorem q745 : (Jvm.Cond.sameMethod "java/lang/AbstractStringBuilder" "java/lang/AbstractStringBuilder" "isLatin1" "()Z") ∈ lw_all := lw_g (lw_at lw_m3 181 rfl) rfl
theorem q747 : (Jvm.Cond.code ({ cls := "java/lang/AbstractStringBuilder", name := "isLatin1", desc := "()Z" } : Jvm.MethodName) prog_22_method_68_code (1 : Nat) (Option.some Jvm.ClassFile.FieldType.boolean)) ∈ lw_all := lw_g (lw_at lw_m3 183 rfl) rfl
theorem q748 : (Jvm.Cond.methodLink "java/lang/AbstractStringBuilder" (226 : Nat) ({ cls := "java/lang/StringUTF16", name := "putCharsAt", desc := "([BICCCC)I" } : Jvm.MethodName)) ∈ lw_all := lw_g (lw_at lw_m3 184 rfl) rfl
theorem q774 : (Jvm.Cond.methodLink "java/lang/AbstractStringBuilder" (32 : Nat) ({ cls := "java/lang/String", name := "length", desc := "()I" } : Jvm.MethodName)) ∈ lw_all := lw_g (lw_at lw_m3 210 rfl) rfl
theorem q783 : (Jvm.Cond.methodLink "java/lang/AbstractStringBuilder" (208 : Nat) ({ cls := "java/lang/AbstractStringBuilder", name := "putStringAt", desc := "(ILjava/lang/String;)V" } : Jvm.MethodName)) ∈ lw_all := lw_g (lw_at lw_m3 219 rfl) rfl
theorem q784 : (Jvm.Cond.privateMethod ({ cls := "java/lang/AbstractStringBuilder", name := "putStringAt", desc := "(ILjava/lang/String;)V" } : Jvm.MethodName)) ∈ lw_tbl := lw_at lw_m3 220 rfl
theorem q785 : (Jvm.Cond.instanceMethod ({ cls := "java/lang/AbstractStringBuilder", name := "putStringAt", desc := "(ILjava/lang/String;)V" } : Jvm.MethodName)) ∈ lw_all := lw_g (lw_at lw_m3 221 rfl) rfl
theorem q786 : (Jvm.Cond.code ({ cls := "java/lang/AbstractStringBuilder", name := "putStringAt", desc := "(ILjava/lang/String;)V" } : Jvm.MethodName) prog_22_method_73_code (3 : Nat) (Option.none : Option Jvm.ClassFile.FieldType)) ∈ lw_all := lw_g (lw_at lw_m3 222 rfl) rfl
theorem q787 : (Jvm.Cond.methodLink "java/lang/AbstractStringBuilder" (397 : Nat) ({ cls := "java/lang/AbstractStringBuilder", name := "inflateIfNeededFor", desc := "(Ljava/lang/String;)V" } : Jvm.MethodName)) ∈ lw_all := lw_g (lw_at lw_m3 223 rfl) rfl
theorem q788 : (Jvm.Cond.privateMethod ({ cls := "java/lang/AbstractStringBuilder", name := "inflateIfNeededFor", desc := "(Ljava/lang/String;)V" } : Jvm.MethodName)) ∈ lw_tbl := lw_at lw_m3 224 rfl
theorem q789 : (Jvm.Cond.instanceMethod ({ cls := "java/lang/AbstractStringBuilder", name := "inflateIfNeededFor", desc := "(Ljava/lang/String;)V" } : Jvm.MethodName)) ∈ lw_all := lw_g (lw_at lw_m3 225 rfl) rfl
theorem q790 : (Jvm.Cond.code ({ cls := "java/lang/AbstractStringBuilder", name := "inflateIfNeededFor", desc := "(Ljava/lang/String;)V" } : Jvm.MethodName) prog_22_method_71_code (2 : Nat) (Option.none : Option Jvm.ClassFile.FieldType)) ∈ lw_all := lw_g (lw_at lw_m3 226 rfl) rfl
theorem q791 : (Jvm.Cond.methodLink "java/lang/AbstractStringBuilder" (40 : Nat) ({ cls := "java/lang/String", name := "coder", desc := "()B" } : Jvm.MethodName)) ∈ lw_all := lw_g (lw_at lw_m3 227 rfl) rfl
theorem q792 : (Jvm.Cond.methodLink "java/lang/AbstractStringBuilder" (195 : Nat) ({ cls := "java/lang/AbstractStringBuilder", name := "inflate", desc := "()V" } : Jvm.MethodName)) ∈ lw_all := lw_g (lw_at lw_m3 228 rfl) rfl
theorem q793 : (Jvm.Cond.privateMethod ({ cls := "java/lang/AbstractStringBuilder", name := "inflate", desc := "()V" } : Jvm.MethodName)) ∈ lw_tbl := lw_at lw_m3 229 rfl
theorem q794 : (Jvm.Cond.instanceMethod ({ cls := "java/lang/AbstractStringBuilder", name := "inflate", desc := "()V" } : Jvm.MethodName)) ∈ lw_all := lw_g (lw_at lw_m3 230 rfl) rfl
theorem q795 : (Jvm.Cond.code ({ cls := "java/lang/AbstractStringBuilder", name := "inflate", desc := "()V" } : Jvm.MethodName) prog_22_method_11_code (2 : Nat) (Option.none : Option Jvm.ClassFile.FieldType)) ∈ lw_all := lw_g (lw_at lw_m3 231 rfl) rfl
theorem q796 : (Jvm.Cond.methodLink "java/lang/AbstractStringBuilder" (125 : Nat) ({ cls := "java/lang/StringLatin1", name := "inflate", desc := "([BI[BII)V" } : Jvm.MethodName)) ∈ lw_all := lw_g (lw_at lw_m3 232 rfl) rfl
theorem q811 : (Jvm.Cond.methodLink "java/lang/AbstractStringBuilder" (399 : Nat) ({ cls := "java/lang/String", name := "getBytes", desc := "([BIB)V" } : Jvm.MethodName)) ∈ lw_all := lw_g (lw_at lw_m4 7 rfl) rfl
theorem q822 : (Jvm.Cond.instanceMethod ({ cls := "java/lang/AbstractStringBuilder", name := "append", desc := "(I)Ljava/lang/AbstractStringBuilder;" } : Jvm.MethodName)) ∈ lw_all := lw_g (lw_at lw_m4 18 rfl) rfl
theorem q823 : (Jvm.Cond.code ({ cls := "java/lang/AbstractStringBuilder", name := "append", desc := "(I)Ljava/lang/AbstractStringBuilder;" } : Jvm.MethodName) prog_22_method_32_code (4 : Nat) (Option.some (Jvm.ClassFile.FieldType.object "java/lang/AbstractStringBuilder"))) ∈ lw_all := lw_g (lw_at lw_m4 19 rfl) rfl
theorem q824 : (Jvm.Cond.methodLink "java/lang/AbstractStringBuilder" (245 : Nat) ({ cls := "java/lang/Integer", name := "stringSize", desc := "(I)I" } : Jvm.MethodName)) ∈ lw_all := lw_g (lw_at lw_m4 20 rfl) rfl
theorem q827 : (Jvm.Cond.methodLink "java/lang/AbstractStringBuilder" (248 : Nat) ({ cls := "java/lang/Integer", name := "getChars", desc := "(II[B)I" } : Jvm.MethodName)) ∈ lw_all := lw_g (lw_at lw_m4 23 rfl) rfl
theorem q834 : (Jvm.Cond.methodLink "java/lang/AbstractStringBuilder" (251 : Nat) ({ cls := "java/lang/StringUTF16", name := "getChars", desc := "(III[B)I" } : Jvm.MethodName)) ∈ lw_all := lw_g (lw_at lw_m4 30 rfl) rfl
theorem q856 : (Jvm.Cond.instanceMethod ({ cls := "java/lang/AbstractStringBuilder", name := "getValue", desc := "()[B" } : Jvm.MethodName)) ∈ lw_all := lw_g (lw_at lw_m4 52 rfl) rfl
theorem q857 : (Jvm.Cond.sameMethod "java/lang/AbstractStringBuilder" "java/lang/AbstractStringBuilder" "getValue" "()[B") ∈ lw_all := lw_g (lw_at lw_m4 53 rfl) rfl
theorem q859 : (Jvm.Cond.code ({ cls := "java/lang/AbstractStringBuilder", name := "getValue", desc := "()[B" } : Jvm.MethodName) prog_22_method_64_code (1 : Nat) (Option.some (Jvm.ClassFile.FieldType.array Jvm.ClassFile.FieldType.byte))) ∈ lw_all := lw_g (lw_at lw_m4 55 rfl) rfl
theorem q861 : (Jvm.Cond.instanceMethod ({ cls := "java/lang/AbstractStringBuilder", name := "length", desc := "()I" } : Jvm.MethodName)) ∈ lw_all := lw_g (lw_at lw_m4 57 rfl) rfl
theorem q862 : (Jvm.Cond.sameMethod "java/lang/AbstractStringBuilder" "java/lang/AbstractStringBuilder" "length" "()I") ∈ lw_all := lw_g (lw_at lw_m4 58 rfl) rfl
theorem q867 : (Jvm.Cond.code ({ cls := "java/lang/AbstractStringBuilder", name := "length", desc := "()I" } : Jvm.MethodName) prog_22_method_6_code (1 : Nat) (Option.some Jvm.ClassFile.FieldType.int)) ∈ lw_all := lw_g (lw_at lw_m4 63 rfl) rfl
theorem q2323 : (Jvm.Cond.sameMethod "java/lang/AbstractStringBuilder" "java/lang/AbstractStringBuilder" "append" "(Ljava/lang/String;)Ljava/lang/AbstractStringBuilder;") ∈ lw_all := lw_g (lw_at lw_m10 79 rfl) rfl
theorem q2324 : (Jvm.Cond.sameMethod "java/lang/AbstractStringBuilder" "java/lang/AbstractStringBuilder" "appendNull" "()Ljava/lang/AbstractStringBuilder;") ∈ lw_all := lw_g (lw_at lw_m10 80 rfl) rfl
theorem q2325 : (Jvm.Cond.sameMethod "java/lang/AbstractStringBuilder" "java/lang/AbstractStringBuilder" "ensureCapacityInternal" "(I)V") ∈ lw_all := lw_g (lw_at lw_m10 81 rfl) rfl
theorem q2326 : (Jvm.Cond.sameMethod "java/lang/AbstractStringBuilder" "java/lang/AbstractStringBuilder" "newCapacity" "(I)I") ∈ lw_all := lw_g (lw_at lw_m10 82 rfl) rfl
theorem q2327 : (Jvm.Cond.sameMethod "java/lang/AbstractStringBuilder" "java/lang/AbstractStringBuilder" "putStringAt" "(ILjava/lang/String;)V") ∈ lw_all := lw_g (lw_at lw_m10 83 rfl) rfl
theorem q2328 : (Jvm.Cond.sameMethod "java/lang/AbstractStringBuilder" "java/lang/AbstractStringBuilder" "inflateIfNeededFor" "(Ljava/lang/String;)V") ∈ lw_all := lw_g (lw_at lw_m10 84 rfl) rfl
theorem q2329 : (Jvm.Cond.sameMethod "java/lang/AbstractStringBuilder" "java/lang/AbstractStringBuilder" "inflate" "()V") ∈ lw_all := lw_g (lw_at lw_m10 85 rfl) rfl
theorem q2330 : (Jvm.Cond.sameMethod "java/lang/AbstractStringBuilder" "java/lang/AbstractStringBuilder" "append" "(I)Ljava/lang/AbstractStringBuilder;") ∈ lw_all := lw_g (lw_at lw_m10 86 rfl) rfl
/-! java/lang/StringBuilder -/
set_option maxRecDepth 100000
def RJ15 : String := "java/lang/StringBuilder"
def TJ15 : u_T := fun k => match k with
  | 0 => ("java/lang/AbstractStringBuilder", "value", "[B", false)
  | 1 => ("java/lang/AbstractStringBuilder", "coder", "B", false)
  | 2 => ("java/lang/AbstractStringBuilder", "maybeLatin1", "Z", false)
  | _ => ("java/lang/AbstractStringBuilder", "count", "I", false)
def tyJ15 : Nat → FieldType := fun k => match k with
  | 0 => .array .byte
  | 1 => .byte
  | 2 => .boolean
  | _ => .int
abbrev wsJ150 : List Cond := u_ws RJ15 TJ15 4
theorem nmJ15 : ∀ a, a < 4 → ∀ b, b < 4 → a ≠ b → (TJ15 a).2.1 ≠ (TJ15 b).2.1 := by decide +kernel
theorem tyJ15_ok : ∀ k, k < 4 → parseFieldDescriptor (TJ15 k).2.2.1 = some (tyJ15 k) := by decide +kernel
abbrev cJ15_init : ByteArray := prog_36_method_1_code
def yJ15_init : MethodName := ⟨RJ15, "<init>", "()V"⟩
def dkwJ15_init_0 : List UInt8 := [42, 16, 16, 183, 0, 1, 177]
abbrev dktJ15_init_0 : List UInt8 := dkwJ15_init_0 ++ []
theorem dksJ15_init_0 : cJ15_init.data.toList.drop 0 = dktJ15_init_0 := by decide +kernel
theorem dJ15_init_0 : decode cJ15_init 0 = .ok (.aload_n 0, 1) := dk_42 (dk_at dksJ15_init_0 0 rfl rfl)
theorem dJ15_init_1 : decode cJ15_init 1 = .ok (.bipush 16, 2) := dk_16 16 (dk_at dksJ15_init_0 1 rfl rfl)
theorem dJ15_init_3 : decode cJ15_init 3 = .ok (.invokespecial 1, 3) := dk_183 0 1 (dk_at dksJ15_init_0 3 rfl rfl)
theorem dJ15_init_6 : decode cJ15_init 6 = .ok (.return_, 1) := dk_177 (dk_at dksJ15_init_0 6 rfl rfl)
abbrev cJ15_append : ByteArray := prog_36_method_7_code
def yJ15_append : MethodName := ⟨RJ15, "append", "(Ljava/lang/String;)Ljava/lang/StringBuilder;"⟩
def dkwJ15_append_0 : List UInt8 := [42, 43, 183, 0, 29, 87, 42, 176]
abbrev dktJ15_append_0 : List UInt8 := dkwJ15_append_0 ++ []
theorem dksJ15_append_0 : cJ15_append.data.toList.drop 0 = dktJ15_append_0 := by decide +kernel
theorem dJ15_append_0 : decode cJ15_append 0 = .ok (.aload_n 0, 1) := dk_42 (dk_at dksJ15_append_0 0 rfl rfl)
theorem dJ15_append_1 : decode cJ15_append 1 = .ok (.aload_n 1, 1) := dk_43 (dk_at dksJ15_append_0 1 rfl rfl)
theorem dJ15_append_2 : decode cJ15_append 2 = .ok (.invokespecial 29, 3) := dk_183 0 29 (dk_at dksJ15_append_0 2 rfl rfl)
theorem dJ15_append_5 : decode cJ15_append 5 = .ok (.pop, 1) := dk_87 (dk_at dksJ15_append_0 5 rfl rfl)
theorem dJ15_append_6 : decode cJ15_append 6 = .ok (.aload_n 0, 1) := dk_42 (dk_at dksJ15_append_0 6 rfl rfl)
theorem dJ15_append_7 : decode cJ15_append 7 = .ok (.areturn, 1) := dk_176 (dk_at dksJ15_append_0 7 rfl rfl)
abbrev cJ15_append_2 : ByteArray := prog_36_method_15_code
def yJ15_append_2 : MethodName := ⟨RJ15, "append", "(I)Ljava/lang/StringBuilder;"⟩
def dkwJ15_append_2_0 : List UInt8 := [42, 27, 183, 0, 53, 87, 42, 176]
abbrev dktJ15_append_2_0 : List UInt8 := dkwJ15_append_2_0 ++ []
theorem dksJ15_append_2_0 : cJ15_append_2.data.toList.drop 0 = dktJ15_append_2_0 := by decide +kernel
theorem dJ15_append_2_0 : decode cJ15_append_2 0 = .ok (.aload_n 0, 1) := dk_42 (dk_at dksJ15_append_2_0 0 rfl rfl)
theorem dJ15_append_2_1 : decode cJ15_append_2 1 = .ok (.iload_n 1, 1) := dk_27 (dk_at dksJ15_append_2_0 1 rfl rfl)
theorem dJ15_append_2_2 : decode cJ15_append_2 2 = .ok (.invokespecial 53, 3) := dk_183 0 53 (dk_at dksJ15_append_2_0 2 rfl rfl)
theorem dJ15_append_2_5 : decode cJ15_append_2 5 = .ok (.pop, 1) := dk_87 (dk_at dksJ15_append_2_0 5 rfl rfl)
theorem dJ15_append_2_6 : decode cJ15_append_2 6 = .ok (.aload_n 0, 1) := dk_42 (dk_at dksJ15_append_2_0 6 rfl rfl)
theorem dJ15_append_2_7 : decode cJ15_append_2 7 = .ok (.areturn, 1) := dk_176 (dk_at dksJ15_append_2_0 7 rfl rfl)
abbrev cJ15_toString : ByteArray := prog_36_method_42_code
def yJ15_toString : MethodName := ⟨RJ15, "toString", "()Ljava/lang/String;"⟩
def dkwJ15_toString_0 : List UInt8 := [187, 0, 18, 89, 42, 183, 0, 137, 176]
abbrev dktJ15_toString_0 : List UInt8 := dkwJ15_toString_0 ++ []
theorem dksJ15_toString_0 : cJ15_toString.data.toList.drop 0 = dktJ15_toString_0 := by decide +kernel
theorem dJ15_toString_0 : decode cJ15_toString 0 = .ok (.new 18, 3) := dk_187 0 18 (dk_at dksJ15_toString_0 0 rfl rfl)
theorem dJ15_toString_3 : decode cJ15_toString 3 = .ok (.dup, 1) := dk_89 (dk_at dksJ15_toString_0 3 rfl rfl)
theorem dJ15_toString_4 : decode cJ15_toString 4 = .ok (.aload_n 0, 1) := dk_42 (dk_at dksJ15_toString_0 4 rfl rfl)
theorem dJ15_toString_5 : decode cJ15_toString 5 = .ok (.invokespecial 137, 3) := dk_183 0 137 (dk_at dksJ15_toString_0 5 rfl rfl)
theorem dJ15_toString_8 : decode cJ15_toString 8 = .ok (.areturn, 1) := dk_176 (dk_at dksJ15_toString_0 8 rfl rfl)
abbrev cJ15_length : ByteArray := prog_36_method_93_code
def yJ15_length : MethodName := ⟨RJ15, "length", "()I"⟩
theorem dJ15_length_0 : decode cJ15_length 0 = .ok (.aload_n 0, 1) := by decide +kernel
theorem dJ15_length_1 : decode cJ15_length 1 = .ok (.invokespecial 343, 3) := by decide +kernel
theorem dJ15_length_4 : decode cJ15_length 4 = .ok (.ireturn, 1) := by decide +kernel
theorem q109 : (Jvm.Cond.initialized "java/lang/StringBuilder") ∈ lw_all := lw_g (lw_at lw_m1 25 rfl) rfl
theorem q670 : (Jvm.Cond.instantiable "java/lang/StringBuilder" (4 : Nat)) ∈ lw_all := lw_g (lw_at lw_m3 106 rfl) rfl
theorem q672 : (Jvm.Cond.instanceMethod ({ cls := "java/lang/StringBuilder", name := "<init>", desc := "()V" } : Jvm.MethodName)) ∈ lw_all := lw_g (lw_at lw_m3 108 rfl) rfl
theorem q673 : (Jvm.Cond.code ({ cls := "java/lang/StringBuilder", name := "<init>", desc := "()V" } : Jvm.MethodName) prog_36_method_1_code (1 : Nat) (Option.none : Option Jvm.ClassFile.FieldType)) ∈ lw_all := lw_g (lw_at lw_m3 109 rfl) rfl
theorem q674 : (Jvm.Cond.methodLink "java/lang/StringBuilder" (1 : Nat) ({ cls := "java/lang/AbstractStringBuilder", name := "<init>", desc := "(I)V" } : Jvm.MethodName)) ∈ lw_all := lw_g (lw_at lw_m3 110 rfl) rfl
theorem q691 : (Jvm.Cond.lays "java/lang/StringBuilder" "java/lang/AbstractStringBuilder" "value" "[B") ∈ lw_all := lw_g (lw_at lw_m3 127 rfl) rfl
theorem q693 : (Jvm.Cond.lays "java/lang/StringBuilder" "java/lang/AbstractStringBuilder" "coder" "B") ∈ lw_all := lw_g (lw_at lw_m3 129 rfl) rfl
theorem q695 : (Jvm.Cond.lays "java/lang/StringBuilder" "java/lang/AbstractStringBuilder" "maybeLatin1" "Z") ∈ lw_all := lw_g (lw_at lw_m3 131 rfl) rfl
theorem q697 : (Jvm.Cond.lays "java/lang/StringBuilder" "java/lang/AbstractStringBuilder" "count" "I") ∈ lw_all := lw_g (lw_at lw_m3 133 rfl) rfl
theorem q699 : (Jvm.Cond.superclass "java/lang/StringBuilder" "java/lang/AbstractStringBuilder") ∈ lw_all := lw_g (lw_at lw_m3 135 rfl) rfl
theorem q702 : (Jvm.Cond.instanceMethod ({ cls := "java/lang/StringBuilder", name := "append", desc := "(Ljava/lang/String;)Ljava/lang/StringBuilder;" } : Jvm.MethodName)) ∈ lw_all := lw_g (lw_at lw_m3 138 rfl) rfl
theorem q703 : (Jvm.Cond.selects "java/lang/StringBuilder" ({ cls := "java/lang/StringBuilder", name := "append", desc := "(Ljava/lang/String;)Ljava/lang/StringBuilder;" } : Jvm.MethodName) ({ cls := "java/lang/StringBuilder", name := "append", desc := "(Ljava/lang/String;)Ljava/lang/StringBuilder;" } : Jvm.MethodName)) ∈ lw_all := lw_g (lw_at lw_m3 139 rfl) rfl
theorem q704 : (Jvm.Cond.code ({ cls := "java/lang/StringBuilder", name := "append", desc := "(Ljava/lang/String;)Ljava/lang/StringBuilder;" } : Jvm.MethodName) prog_36_method_7_code (2 : Nat) (Option.some (Jvm.ClassFile.FieldType.object "java/lang/StringBuilder"))) ∈ lw_all := lw_g (lw_at lw_m3 140 rfl) rfl
theorem q705 : (Jvm.Cond.methodLink "java/lang/StringBuilder" (29 : Nat) ({ cls := "java/lang/AbstractStringBuilder", name := "append", desc := "(Ljava/lang/String;)Ljava/lang/AbstractStringBuilder;" } : Jvm.MethodName)) ∈ lw_all := lw_g (lw_at lw_m3 141 rfl) rfl
theorem q746 : (Jvm.Cond.selects "java/lang/StringBuilder" ({ cls := "java/lang/AbstractStringBuilder", name := "isLatin1", desc := "()Z" } : Jvm.MethodName) ({ cls := "java/lang/AbstractStringBuilder", name := "isLatin1", desc := "()Z" } : Jvm.MethodName)) ∈ lw_all := lw_g (lw_at lw_m3 182 rfl) rfl
theorem q818 : (Jvm.Cond.instanceMethod ({ cls := "java/lang/StringBuilder", name := "append", desc := "(I)Ljava/lang/StringBuilder;" } : Jvm.MethodName)) ∈ lw_all := lw_g (lw_at lw_m4 14 rfl) rfl
theorem q819 : (Jvm.Cond.selects "java/lang/StringBuilder" ({ cls := "java/lang/StringBuilder", name := "append", desc := "(I)Ljava/lang/StringBuilder;" } : Jvm.MethodName) ({ cls := "java/lang/StringBuilder", name := "append", desc := "(I)Ljava/lang/StringBuilder;" } : Jvm.MethodName)) ∈ lw_all := lw_g (lw_at lw_m4 15 rfl) rfl
theorem q820 : (Jvm.Cond.code ({ cls := "java/lang/StringBuilder", name := "append", desc := "(I)Ljava/lang/StringBuilder;" } : Jvm.MethodName) prog_36_method_15_code (2 : Nat) (Option.some (Jvm.ClassFile.FieldType.object "java/lang/StringBuilder"))) ∈ lw_all := lw_g (lw_at lw_m4 16 rfl) rfl
theorem q821 : (Jvm.Cond.methodLink "java/lang/StringBuilder" (53 : Nat) ({ cls := "java/lang/AbstractStringBuilder", name := "append", desc := "(I)Ljava/lang/AbstractStringBuilder;" } : Jvm.MethodName)) ∈ lw_all := lw_g (lw_at lw_m4 17 rfl) rfl
theorem q844 : (Jvm.Cond.instanceMethod ({ cls := "java/lang/StringBuilder", name := "toString", desc := "()Ljava/lang/String;" } : Jvm.MethodName)) ∈ lw_all := lw_g (lw_at lw_m4 40 rfl) rfl
theorem q845 : (Jvm.Cond.selects "java/lang/StringBuilder" ({ cls := "java/lang/StringBuilder", name := "toString", desc := "()Ljava/lang/String;" } : Jvm.MethodName) ({ cls := "java/lang/StringBuilder", name := "toString", desc := "()Ljava/lang/String;" } : Jvm.MethodName)) ∈ lw_all := lw_g (lw_at lw_m4 41 rfl) rfl
theorem q846 : (Jvm.Cond.code ({ cls := "java/lang/StringBuilder", name := "toString", desc := "()Ljava/lang/String;" } : Jvm.MethodName) prog_36_method_42_code (1 : Nat) (Option.some (Jvm.ClassFile.FieldType.object "java/lang/String"))) ∈ lw_all := lw_g (lw_at lw_m4 42 rfl) rfl
theorem q847 : (Jvm.Cond.classLink "java/lang/StringBuilder" (18 : Nat) "java/lang/String") ∈ lw_all := lw_g (lw_at lw_m4 43 rfl) rfl
theorem q848 : (Jvm.Cond.methodLink "java/lang/StringBuilder" (137 : Nat) ({ cls := "java/lang/String", name := "<init>", desc := "(Ljava/lang/StringBuilder;)V" } : Jvm.MethodName)) ∈ lw_all := lw_g (lw_at lw_m4 44 rfl) rfl
theorem q858 : (Jvm.Cond.selects "java/lang/StringBuilder" ({ cls := "java/lang/AbstractStringBuilder", name := "getValue", desc := "()[B" } : Jvm.MethodName) ({ cls := "java/lang/AbstractStringBuilder", name := "getValue", desc := "()[B" } : Jvm.MethodName)) ∈ lw_all := lw_g (lw_at lw_m4 54 rfl) rfl
theorem q863 : (Jvm.Cond.selects "java/lang/StringBuilder" ({ cls := "java/lang/AbstractStringBuilder", name := "length", desc := "()I" } : Jvm.MethodName) ({ cls := "java/lang/StringBuilder", name := "length", desc := "()I" } : Jvm.MethodName)) ∈ lw_all := lw_g (lw_at lw_m4 59 rfl) rfl
theorem q864 : (Jvm.Cond.instanceMethod ({ cls := "java/lang/StringBuilder", name := "length", desc := "()I" } : Jvm.MethodName)) ∈ lw_all := lw_g (lw_at lw_m4 60 rfl) rfl
theorem q865 : (Jvm.Cond.code ({ cls := "java/lang/StringBuilder", name := "length", desc := "()I" } : Jvm.MethodName) prog_36_method_93_code (1 : Nat) (Option.some Jvm.ClassFile.FieldType.int)) ∈ lw_all := lw_g (lw_at lw_m4 61 rfl) rfl
theorem q866 : (Jvm.Cond.methodLink "java/lang/StringBuilder" (343 : Nat) ({ cls := "java/lang/AbstractStringBuilder", name := "length", desc := "()I" } : Jvm.MethodName)) ∈ lw_all := lw_g (lw_at lw_m4 62 rfl) rfl
theorem q946 : (Jvm.Cond.selects "java/lang/StringBuilder" ({ cls := "java/lang/Object", name := "getClass", desc := "()Ljava/lang/Class;" } : Jvm.MethodName) ({ cls := "java/lang/Object", name := "getClass", desc := "()Ljava/lang/Class;" } : Jvm.MethodName)) ∈ lw_all := lw_g (lw_at lw_m4 142 rfl) rfl
theorem q2349 : (Jvm.Cond.castable "java/lang/StringBuilder" "java/lang/Object") ∈ lw_tbl := lw_at lw_m10 105 rfl
theorem in_J15 : ∀ w ∈ wsJ150, w ∈ lw_all := lw_in wsJ150 [691, 693, 695, 697] (by decide +kernel) (by decide +kernel)
/-! java/lang/StringUTF16 -/
set_option maxRecDepth 100000
def RJ16 : String := "java/lang/StringUTF16"
abbrev cJ16_newBytesFor : ByteArray := prog_38_method_2_code
def yJ16_newBytesFor : MethodName := ⟨RJ16, "newBytesFor", "(I)[B"⟩
def dkwJ16_newBytesFor_0 : List UInt8 := [26, 184, 0, 11, 188, 8, 176]
abbrev dktJ16_newBytesFor_0 : List UInt8 := dkwJ16_newBytesFor_0 ++ []
theorem dksJ16_newBytesFor_0 : cJ16_newBytesFor.data.toList.drop 0 = dktJ16_newBytesFor_0 := by decide +kernel
theorem dJ16_newBytesFor_0 : decode cJ16_newBytesFor 0 = .ok (.iload_n 0, 1) := dk_26 (dk_at dksJ16_newBytesFor_0 0 rfl rfl)
theorem dJ16_newBytesFor_1 : decode cJ16_newBytesFor 1 = .ok (.invokestatic 11, 3) := dk_184 0 11 (dk_at dksJ16_newBytesFor_0 1 rfl rfl)
theorem dJ16_newBytesFor_4 : decode cJ16_newBytesFor 4 = .ok (.newarray .byte, 2) := dk_188_8 (dk_at dksJ16_newBytesFor_0 4 rfl rfl)
theorem dJ16_newBytesFor_6 : decode cJ16_newBytesFor 6 = .ok (.areturn, 1) := dk_176 (dk_at dksJ16_newBytesFor_0 6 rfl rfl)
abbrev cJ16_newBytesLength : ByteArray := prog_38_method_3_code
def yJ16_newBytesLength : MethodName := ⟨RJ16, "newBytesLength", "(I)I"⟩
def dkwJ16_newBytesLength_2 : List UInt8 := [182, 0, 32, 182, 0, 37, 183, 0, 41, 191, 26, 4, 120, 172]
abbrev dktJ16_newBytesLength_2 : List UInt8 := dkwJ16_newBytesLength_2 ++ []
def dkwJ16_newBytesLength_1 : List UInt8 := [187, 0, 23, 89, 183, 0, 25, 18, 26, 182, 0, 28, 26, 182, 0, 32, 18, 35, 182, 0, 28, 18, 20]
abbrev dktJ16_newBytesLength_1 : List UInt8 := dkwJ16_newBytesLength_1 ++ dktJ16_newBytesLength_2
def dkwJ16_newBytesLength_0 : List UInt8 := [26, 156, 0, 11, 187, 0, 17, 89, 183, 0, 19, 191, 26, 18, 20, 161, 0, 40, 187, 0, 21, 89]
abbrev dktJ16_newBytesLength_0 : List UInt8 := dkwJ16_newBytesLength_0 ++ dktJ16_newBytesLength_1
theorem dksJ16_newBytesLength_0 : cJ16_newBytesLength.data.toList.drop 0 = dktJ16_newBytesLength_0 := by decide +kernel
theorem dksJ16_newBytesLength_1 : cJ16_newBytesLength.data.toList.drop 22 = dktJ16_newBytesLength_1 := dk_seg dksJ16_newBytesLength_0 22 rfl rfl
theorem dksJ16_newBytesLength_2 : cJ16_newBytesLength.data.toList.drop 45 = dktJ16_newBytesLength_2 := dk_seg dksJ16_newBytesLength_1 23 rfl rfl
theorem dJ16_newBytesLength_0 : decode cJ16_newBytesLength 0 = .ok (.iload_n 0, 1) := dk_26 (dk_at dksJ16_newBytesLength_0 0 rfl rfl)
theorem dJ16_newBytesLength_1 : decode cJ16_newBytesLength 1 = .ok (.ifCond .ge 11, 3) := dk_156 0 11 (dk_at dksJ16_newBytesLength_0 1 rfl rfl)
theorem dJ16_newBytesLength_4 : decode cJ16_newBytesLength 4 = .ok (.new 17, 3) := dk_187 0 17 (dk_at dksJ16_newBytesLength_0 4 rfl rfl)
theorem dJ16_newBytesLength_7 : decode cJ16_newBytesLength 7 = .ok (.dup, 1) := dk_89 (dk_at dksJ16_newBytesLength_0 7 rfl rfl)
theorem dJ16_newBytesLength_8 : decode cJ16_newBytesLength 8 = .ok (.invokespecial 19, 3) := dk_183 0 19 (dk_at dksJ16_newBytesLength_0 8 rfl rfl)
theorem dJ16_newBytesLength_11 : decode cJ16_newBytesLength 11 = .ok (.athrow, 1) := dk_191 (dk_at dksJ16_newBytesLength_0 11 rfl rfl)
theorem dJ16_newBytesLength_12 : decode cJ16_newBytesLength 12 = .ok (.iload_n 0, 1) := dk_26 (dk_at dksJ16_newBytesLength_0 12 rfl rfl)
theorem dJ16_newBytesLength_13 : decode cJ16_newBytesLength 13 = .ok (.ldc 20, 2) := dk_18 20 (dk_at dksJ16_newBytesLength_0 13 rfl rfl)
theorem dJ16_newBytesLength_15 : decode cJ16_newBytesLength 15 = .ok (.if_icmp .lt 40, 3) := dk_161 0 40 (dk_at dksJ16_newBytesLength_0 15 rfl rfl)
theorem dJ16_newBytesLength_18 : decode cJ16_newBytesLength 18 = .ok (.new 21, 3) := dk_187 0 21 (dk_at dksJ16_newBytesLength_0 18 rfl rfl)
theorem dJ16_newBytesLength_21 : decode cJ16_newBytesLength 21 = .ok (.dup, 1) := dk_89 (dk_at dksJ16_newBytesLength_0 21 rfl rfl)
theorem dJ16_newBytesLength_22 : decode cJ16_newBytesLength 22 = .ok (.new 23, 3) := dk_187 0 23 (dk_at dksJ16_newBytesLength_1 0 rfl rfl)
theorem dJ16_newBytesLength_25 : decode cJ16_newBytesLength 25 = .ok (.dup, 1) := dk_89 (dk_at dksJ16_newBytesLength_1 3 rfl rfl)
theorem dJ16_newBytesLength_26 : decode cJ16_newBytesLength 26 = .ok (.invokespecial 25, 3) := dk_183 0 25 (dk_at dksJ16_newBytesLength_1 4 rfl rfl)
theorem dJ16_newBytesLength_29 : decode cJ16_newBytesLength 29 = .ok (.ldc 26, 2) := dk_18 26 (dk_at dksJ16_newBytesLength_1 7 rfl rfl)
theorem dJ16_newBytesLength_31 : decode cJ16_newBytesLength 31 = .ok (.invokevirtual 28, 3) := dk_182 0 28 (dk_at dksJ16_newBytesLength_1 9 rfl rfl)
theorem dJ16_newBytesLength_34 : decode cJ16_newBytesLength 34 = .ok (.iload_n 0, 1) := dk_26 (dk_at dksJ16_newBytesLength_1 12 rfl rfl)
theorem dJ16_newBytesLength_35 : decode cJ16_newBytesLength 35 = .ok (.invokevirtual 32, 3) := dk_182 0 32 (dk_at dksJ16_newBytesLength_1 13 rfl rfl)
theorem dJ16_newBytesLength_38 : decode cJ16_newBytesLength 38 = .ok (.ldc 35, 2) := dk_18 35 (dk_at dksJ16_newBytesLength_1 16 rfl rfl)
theorem dJ16_newBytesLength_40 : decode cJ16_newBytesLength 40 = .ok (.invokevirtual 28, 3) := dk_182 0 28 (dk_at dksJ16_newBytesLength_1 18 rfl rfl)
theorem dJ16_newBytesLength_43 : decode cJ16_newBytesLength 43 = .ok (.ldc 20, 2) := dk_18 20 (dk_at dksJ16_newBytesLength_1 21 rfl rfl)
theorem dJ16_newBytesLength_45 : decode cJ16_newBytesLength 45 = .ok (.invokevirtual 32, 3) := dk_182 0 32 (dk_at dksJ16_newBytesLength_2 0 rfl rfl)
theorem dJ16_newBytesLength_48 : decode cJ16_newBytesLength 48 = .ok (.invokevirtual 37, 3) := dk_182 0 37 (dk_at dksJ16_newBytesLength_2 3 rfl rfl)
theorem dJ16_newBytesLength_51 : decode cJ16_newBytesLength 51 = .ok (.invokespecial 41, 3) := dk_183 0 41 (dk_at dksJ16_newBytesLength_2 6 rfl rfl)
theorem dJ16_newBytesLength_54 : decode cJ16_newBytesLength 54 = .ok (.athrow, 1) := dk_191 (dk_at dksJ16_newBytesLength_2 9 rfl rfl)
theorem dJ16_newBytesLength_55 : decode cJ16_newBytesLength 55 = .ok (.iload_n 0, 1) := dk_26 (dk_at dksJ16_newBytesLength_2 10 rfl rfl)
theorem dJ16_newBytesLength_56 : decode cJ16_newBytesLength 56 = .ok (.iconst 1, 1) := dk_4 (dk_at dksJ16_newBytesLength_2 11 rfl rfl)
theorem dJ16_newBytesLength_57 : decode cJ16_newBytesLength 57 = .ok (.ishl, 1) := dk_120 (dk_at dksJ16_newBytesLength_2 12 rfl rfl)
theorem dJ16_newBytesLength_58 : decode cJ16_newBytesLength 58 = .ok (.ireturn, 1) := dk_172 (dk_at dksJ16_newBytesLength_2 13 rfl rfl)
abbrev cJ16_putCharsAt : ByteArray := prog_38_method_81_code
def yJ16_putCharsAt : MethodName := ⟨RJ16, "putCharsAt", "([BICCCC)I"⟩
def dkwJ16_putCharsAt_3 : List UInt8 := [21, 6, 172]
abbrev dktJ16_putCharsAt_3 : List UInt8 := dkwJ16_putCharsAt_3 ++ []
def dkwJ16_putCharsAt_2 : List UInt8 := [184, 0, 111, 178, 0, 44, 154, 0, 17, 27, 21, 6, 159, 0, 11, 187, 0, 52, 89, 183, 0, 66, 191]
abbrev dktJ16_putCharsAt_2 : List UInt8 := dkwJ16_putCharsAt_2 ++ dktJ16_putCharsAt_3
def dkwJ16_putCharsAt_1 : List UInt8 := [132, 1, 1, 29, 184, 0, 111, 42, 27, 132, 1, 1, 21, 4, 184, 0, 111, 42, 27, 132, 1, 1, 21, 5]
abbrev dktJ16_putCharsAt_1 : List UInt8 := dkwJ16_putCharsAt_1 ++ dktJ16_putCharsAt_2
def dkwJ16_putCharsAt_0 : List UInt8 := [27, 7, 96, 54, 6, 27, 21, 6, 42, 184, 0, 96, 42, 27, 132, 1, 1, 28, 184, 0, 111, 42, 27]
abbrev dktJ16_putCharsAt_0 : List UInt8 := dkwJ16_putCharsAt_0 ++ dktJ16_putCharsAt_1
theorem dksJ16_putCharsAt_0 : cJ16_putCharsAt.data.toList.drop 0 = dktJ16_putCharsAt_0 := by decide +kernel
theorem dksJ16_putCharsAt_1 : cJ16_putCharsAt.data.toList.drop 23 = dktJ16_putCharsAt_1 := dk_seg dksJ16_putCharsAt_0 23 rfl rfl
theorem dksJ16_putCharsAt_2 : cJ16_putCharsAt.data.toList.drop 47 = dktJ16_putCharsAt_2 := dk_seg dksJ16_putCharsAt_1 24 rfl rfl
theorem dksJ16_putCharsAt_3 : cJ16_putCharsAt.data.toList.drop 70 = dktJ16_putCharsAt_3 := dk_seg dksJ16_putCharsAt_2 23 rfl rfl
theorem dJ16_putCharsAt_0 : decode cJ16_putCharsAt 0 = .ok (.iload_n 1, 1) := dk_27 (dk_at dksJ16_putCharsAt_0 0 rfl rfl)
theorem dJ16_putCharsAt_1 : decode cJ16_putCharsAt 1 = .ok (.iconst 4, 1) := dk_7 (dk_at dksJ16_putCharsAt_0 1 rfl rfl)
theorem dJ16_putCharsAt_2 : decode cJ16_putCharsAt 2 = .ok (.iadd, 1) := dk_96 (dk_at dksJ16_putCharsAt_0 2 rfl rfl)
theorem dJ16_putCharsAt_3 : decode cJ16_putCharsAt 3 = .ok (.istore 6, 2) := dk_54 6 (dk_at dksJ16_putCharsAt_0 3 rfl rfl)
theorem dJ16_putCharsAt_5 : decode cJ16_putCharsAt 5 = .ok (.iload_n 1, 1) := dk_27 (dk_at dksJ16_putCharsAt_0 5 rfl rfl)
theorem dJ16_putCharsAt_6 : decode cJ16_putCharsAt 6 = .ok (.iload 6, 2) := dk_21 6 (dk_at dksJ16_putCharsAt_0 6 rfl rfl)
theorem dJ16_putCharsAt_8 : decode cJ16_putCharsAt 8 = .ok (.aload_n 0, 1) := dk_42 (dk_at dksJ16_putCharsAt_0 8 rfl rfl)
theorem dJ16_putCharsAt_9 : decode cJ16_putCharsAt 9 = .ok (.invokestatic 96, 3) := dk_184 0 96 (dk_at dksJ16_putCharsAt_0 9 rfl rfl)
theorem dJ16_putCharsAt_12 : decode cJ16_putCharsAt 12 = .ok (.aload_n 0, 1) := dk_42 (dk_at dksJ16_putCharsAt_0 12 rfl rfl)
theorem dJ16_putCharsAt_13 : decode cJ16_putCharsAt 13 = .ok (.iload_n 1, 1) := dk_27 (dk_at dksJ16_putCharsAt_0 13 rfl rfl)
theorem dJ16_putCharsAt_14 : decode cJ16_putCharsAt 14 = .ok (.iinc 1 1, 3) := dk_132 1 1 (dk_at dksJ16_putCharsAt_0 14 rfl rfl)
theorem dJ16_putCharsAt_17 : decode cJ16_putCharsAt 17 = .ok (.iload_n 2, 1) := dk_28 (dk_at dksJ16_putCharsAt_0 17 rfl rfl)
theorem dJ16_putCharsAt_18 : decode cJ16_putCharsAt 18 = .ok (.invokestatic 111, 3) := dk_184 0 111 (dk_at dksJ16_putCharsAt_0 18 rfl rfl)
theorem dJ16_putCharsAt_21 : decode cJ16_putCharsAt 21 = .ok (.aload_n 0, 1) := dk_42 (dk_at dksJ16_putCharsAt_0 21 rfl rfl)
theorem dJ16_putCharsAt_22 : decode cJ16_putCharsAt 22 = .ok (.iload_n 1, 1) := dk_27 (dk_at dksJ16_putCharsAt_0 22 rfl rfl)
theorem dJ16_putCharsAt_23 : decode cJ16_putCharsAt 23 = .ok (.iinc 1 1, 3) := dk_132 1 1 (dk_at dksJ16_putCharsAt_1 0 rfl rfl)
theorem dJ16_putCharsAt_26 : decode cJ16_putCharsAt 26 = .ok (.iload_n 3, 1) := dk_29 (dk_at dksJ16_putCharsAt_1 3 rfl rfl)
theorem dJ16_putCharsAt_27 : decode cJ16_putCharsAt 27 = .ok (.invokestatic 111, 3) := dk_184 0 111 (dk_at dksJ16_putCharsAt_1 4 rfl rfl)
theorem dJ16_putCharsAt_30 : decode cJ16_putCharsAt 30 = .ok (.aload_n 0, 1) := dk_42 (dk_at dksJ16_putCharsAt_1 7 rfl rfl)
theorem dJ16_putCharsAt_31 : decode cJ16_putCharsAt 31 = .ok (.iload_n 1, 1) := dk_27 (dk_at dksJ16_putCharsAt_1 8 rfl rfl)
theorem dJ16_putCharsAt_32 : decode cJ16_putCharsAt 32 = .ok (.iinc 1 1, 3) := dk_132 1 1 (dk_at dksJ16_putCharsAt_1 9 rfl rfl)
theorem dJ16_putCharsAt_35 : decode cJ16_putCharsAt 35 = .ok (.iload 4, 2) := dk_21 4 (dk_at dksJ16_putCharsAt_1 12 rfl rfl)
theorem dJ16_putCharsAt_37 : decode cJ16_putCharsAt 37 = .ok (.invokestatic 111, 3) := dk_184 0 111 (dk_at dksJ16_putCharsAt_1 14 rfl rfl)
theorem dJ16_putCharsAt_40 : decode cJ16_putCharsAt 40 = .ok (.aload_n 0, 1) := dk_42 (dk_at dksJ16_putCharsAt_1 17 rfl rfl)
theorem dJ16_putCharsAt_41 : decode cJ16_putCharsAt 41 = .ok (.iload_n 1, 1) := dk_27 (dk_at dksJ16_putCharsAt_1 18 rfl rfl)
theorem dJ16_putCharsAt_42 : decode cJ16_putCharsAt 42 = .ok (.iinc 1 1, 3) := dk_132 1 1 (dk_at dksJ16_putCharsAt_1 19 rfl rfl)
theorem dJ16_putCharsAt_45 : decode cJ16_putCharsAt 45 = .ok (.iload 5, 2) := dk_21 5 (dk_at dksJ16_putCharsAt_1 22 rfl rfl)
theorem dJ16_putCharsAt_47 : decode cJ16_putCharsAt 47 = .ok (.invokestatic 111, 3) := dk_184 0 111 (dk_at dksJ16_putCharsAt_2 0 rfl rfl)
theorem dJ16_putCharsAt_50 : decode cJ16_putCharsAt 50 = .ok (.getstatic 44, 3) := dk_178 0 44 (dk_at dksJ16_putCharsAt_2 3 rfl rfl)
theorem dJ16_putCharsAt_53 : decode cJ16_putCharsAt 53 = .ok (.ifCond .ne 17, 3) := dk_154 0 17 (dk_at dksJ16_putCharsAt_2 6 rfl rfl)
theorem dJ16_putCharsAt_56 : decode cJ16_putCharsAt 56 = .ok (.iload_n 1, 1) := dk_27 (dk_at dksJ16_putCharsAt_2 9 rfl rfl)
theorem dJ16_putCharsAt_57 : decode cJ16_putCharsAt 57 = .ok (.iload 6, 2) := dk_21 6 (dk_at dksJ16_putCharsAt_2 10 rfl rfl)
theorem dJ16_putCharsAt_59 : decode cJ16_putCharsAt 59 = .ok (.if_icmp .eq 11, 3) := dk_159 0 11 (dk_at dksJ16_putCharsAt_2 12 rfl rfl)
theorem dJ16_putCharsAt_62 : decode cJ16_putCharsAt 62 = .ok (.new 52, 3) := dk_187 0 52 (dk_at dksJ16_putCharsAt_2 15 rfl rfl)
theorem dJ16_putCharsAt_65 : decode cJ16_putCharsAt 65 = .ok (.dup, 1) := dk_89 (dk_at dksJ16_putCharsAt_2 18 rfl rfl)
theorem dJ16_putCharsAt_66 : decode cJ16_putCharsAt 66 = .ok (.invokespecial 66, 3) := dk_183 0 66 (dk_at dksJ16_putCharsAt_2 19 rfl rfl)
theorem dJ16_putCharsAt_69 : decode cJ16_putCharsAt 69 = .ok (.athrow, 1) := dk_191 (dk_at dksJ16_putCharsAt_2 22 rfl rfl)
theorem dJ16_putCharsAt_70 : decode cJ16_putCharsAt 70 = .ok (.iload 6, 2) := dk_21 6 (dk_at dksJ16_putCharsAt_3 0 rfl rfl)
theorem dJ16_putCharsAt_72 : decode cJ16_putCharsAt 72 = .ok (.ireturn, 1) := dk_172 (dk_at dksJ16_putCharsAt_3 2 rfl rfl)
abbrev cJ16_checkBoundsBeginEnd : ByteArray := prog_38_method_93_code
def yJ16_checkBoundsBeginEnd : MethodName := ⟨RJ16, "checkBoundsBeginEnd", "(II[B)V"⟩
def dkwJ16_checkBoundsBeginEnd_0 : List UInt8 := [26, 27, 44, 184, 0, 48, 184, 0, 241, 177]
abbrev dktJ16_checkBoundsBeginEnd_0 : List UInt8 := dkwJ16_checkBoundsBeginEnd_0 ++ []
theorem dksJ16_checkBoundsBeginEnd_0 : cJ16_checkBoundsBeginEnd.data.toList.drop 0 = dktJ16_checkBoundsBeginEnd_0 := by decide +kernel
theorem dJ16_checkBoundsBeginEnd_0 : decode cJ16_checkBoundsBeginEnd 0 = .ok (.iload_n 0, 1) := dk_26 (dk_at dksJ16_checkBoundsBeginEnd_0 0 rfl rfl)
theorem dJ16_checkBoundsBeginEnd_1 : decode cJ16_checkBoundsBeginEnd 1 = .ok (.iload_n 1, 1) := dk_27 (dk_at dksJ16_checkBoundsBeginEnd_0 1 rfl rfl)
theorem dJ16_checkBoundsBeginEnd_2 : decode cJ16_checkBoundsBeginEnd 2 = .ok (.aload_n 2, 1) := dk_44 (dk_at dksJ16_checkBoundsBeginEnd_0 2 rfl rfl)
theorem dJ16_checkBoundsBeginEnd_3 : decode cJ16_checkBoundsBeginEnd 3 = .ok (.invokestatic 48, 3) := dk_184 0 48 (dk_at dksJ16_checkBoundsBeginEnd_0 3 rfl rfl)
theorem dJ16_checkBoundsBeginEnd_6 : decode cJ16_checkBoundsBeginEnd 6 = .ok (.invokestatic 241, 3) := dk_184 0 241 (dk_at dksJ16_checkBoundsBeginEnd_0 6 rfl rfl)
theorem dJ16_checkBoundsBeginEnd_9 : decode cJ16_checkBoundsBeginEnd 9 = .ok (.return_, 1) := dk_177 (dk_at dksJ16_checkBoundsBeginEnd_0 9 rfl rfl)
abbrev cJ16_length : ByteArray := prog_38_method_6_code
def yJ16_length : MethodName := ⟨RJ16, "length", "([B)I"⟩
def dkwJ16_length_0 : List UInt8 := [42, 190, 4, 122, 172]
abbrev dktJ16_length_0 : List UInt8 := dkwJ16_length_0 ++ []
theorem dksJ16_length_0 : cJ16_length.data.toList.drop 0 = dktJ16_length_0 := by decide +kernel
theorem dJ16_length_0 : decode cJ16_length 0 = .ok (.aload_n 0, 1) := dk_42 (dk_at dksJ16_length_0 0 rfl rfl)
theorem dJ16_length_1 : decode cJ16_length 1 = .ok (.arraylength, 1) := dk_190 (dk_at dksJ16_length_0 1 rfl rfl)
theorem dJ16_length_2 : decode cJ16_length 2 = .ok (.iconst 1, 1) := dk_4 (dk_at dksJ16_length_0 2 rfl rfl)
theorem dJ16_length_3 : decode cJ16_length 3 = .ok (.ishr, 1) := dk_122 (dk_at dksJ16_length_0 3 rfl rfl)
theorem dJ16_length_4 : decode cJ16_length 4 = .ok (.ireturn, 1) := dk_172 (dk_at dksJ16_length_0 4 rfl rfl)
abbrev cJ16_putChar : ByteArray := prog_38_method_4_code
def yJ16_putChar : MethodName := ⟨RJ16, "putChar", "([BII)V"⟩
def dkwJ16_putChar_2 : List UInt8 := [178, 0, 63, 122, 145, 84, 177]
abbrev dktJ16_putChar_2 : List UInt8 := dkwJ16_putChar_2 ++ []
def dkwJ16_putChar_1 : List UInt8 := [183, 0, 56, 191, 27, 4, 120, 60, 42, 27, 132, 1, 1, 28, 178, 0, 59, 122, 145, 84, 42, 27, 28]
abbrev dktJ16_putChar_1 : List UInt8 := dkwJ16_putChar_1 ++ dktJ16_putChar_2
def dkwJ16_putChar_0 : List UInt8 := [178, 0, 44, 154, 0, 25, 27, 155, 0, 11, 27, 42, 184, 0, 48, 161, 0, 13, 187, 0, 52, 89, 18, 54]
abbrev dktJ16_putChar_0 : List UInt8 := dkwJ16_putChar_0 ++ dktJ16_putChar_1
theorem dksJ16_putChar_0 : cJ16_putChar.data.toList.drop 0 = dktJ16_putChar_0 := by decide +kernel
theorem dksJ16_putChar_1 : cJ16_putChar.data.toList.drop 24 = dktJ16_putChar_1 := dk_seg dksJ16_putChar_0 24 rfl rfl
theorem dksJ16_putChar_2 : cJ16_putChar.data.toList.drop 47 = dktJ16_putChar_2 := dk_seg dksJ16_putChar_1 23 rfl rfl
theorem dJ16_putChar_0 : decode cJ16_putChar 0 = .ok (.getstatic 44, 3) := dk_178 0 44 (dk_at dksJ16_putChar_0 0 rfl rfl)
theorem dJ16_putChar_3 : decode cJ16_putChar 3 = .ok (.ifCond .ne 25, 3) := dk_154 0 25 (dk_at dksJ16_putChar_0 3 rfl rfl)
theorem dJ16_putChar_6 : decode cJ16_putChar 6 = .ok (.iload_n 1, 1) := dk_27 (dk_at dksJ16_putChar_0 6 rfl rfl)
theorem dJ16_putChar_7 : decode cJ16_putChar 7 = .ok (.ifCond .lt 11, 3) := dk_155 0 11 (dk_at dksJ16_putChar_0 7 rfl rfl)
theorem dJ16_putChar_10 : decode cJ16_putChar 10 = .ok (.iload_n 1, 1) := dk_27 (dk_at dksJ16_putChar_0 10 rfl rfl)
theorem dJ16_putChar_11 : decode cJ16_putChar 11 = .ok (.aload_n 0, 1) := dk_42 (dk_at dksJ16_putChar_0 11 rfl rfl)
theorem dJ16_putChar_12 : decode cJ16_putChar 12 = .ok (.invokestatic 48, 3) := dk_184 0 48 (dk_at dksJ16_putChar_0 12 rfl rfl)
theorem dJ16_putChar_15 : decode cJ16_putChar 15 = .ok (.if_icmp .lt 13, 3) := dk_161 0 13 (dk_at dksJ16_putChar_0 15 rfl rfl)
theorem dJ16_putChar_18 : decode cJ16_putChar 18 = .ok (.new 52, 3) := dk_187 0 52 (dk_at dksJ16_putChar_0 18 rfl rfl)
theorem dJ16_putChar_21 : decode cJ16_putChar 21 = .ok (.dup, 1) := dk_89 (dk_at dksJ16_putChar_0 21 rfl rfl)
theorem dJ16_putChar_22 : decode cJ16_putChar 22 = .ok (.ldc 54, 2) := dk_18 54 (dk_at dksJ16_putChar_0 22 rfl rfl)
theorem dJ16_putChar_24 : decode cJ16_putChar 24 = .ok (.invokespecial 56, 3) := dk_183 0 56 (dk_at dksJ16_putChar_1 0 rfl rfl)
theorem dJ16_putChar_27 : decode cJ16_putChar 27 = .ok (.athrow, 1) := dk_191 (dk_at dksJ16_putChar_1 3 rfl rfl)
theorem dJ16_putChar_28 : decode cJ16_putChar 28 = .ok (.iload_n 1, 1) := dk_27 (dk_at dksJ16_putChar_1 4 rfl rfl)
theorem dJ16_putChar_29 : decode cJ16_putChar 29 = .ok (.iconst 1, 1) := dk_4 (dk_at dksJ16_putChar_1 5 rfl rfl)
theorem dJ16_putChar_30 : decode cJ16_putChar 30 = .ok (.ishl, 1) := dk_120 (dk_at dksJ16_putChar_1 6 rfl rfl)
theorem dJ16_putChar_31 : decode cJ16_putChar 31 = .ok (.istore_n 1, 1) := dk_60 (dk_at dksJ16_putChar_1 7 rfl rfl)
theorem dJ16_putChar_32 : decode cJ16_putChar 32 = .ok (.aload_n 0, 1) := dk_42 (dk_at dksJ16_putChar_1 8 rfl rfl)
theorem dJ16_putChar_33 : decode cJ16_putChar 33 = .ok (.iload_n 1, 1) := dk_27 (dk_at dksJ16_putChar_1 9 rfl rfl)
theorem dJ16_putChar_34 : decode cJ16_putChar 34 = .ok (.iinc 1 1, 3) := dk_132 1 1 (dk_at dksJ16_putChar_1 10 rfl rfl)
theorem dJ16_putChar_37 : decode cJ16_putChar 37 = .ok (.iload_n 2, 1) := dk_28 (dk_at dksJ16_putChar_1 13 rfl rfl)
theorem dJ16_putChar_38 : decode cJ16_putChar 38 = .ok (.getstatic 59, 3) := dk_178 0 59 (dk_at dksJ16_putChar_1 14 rfl rfl)
theorem dJ16_putChar_41 : decode cJ16_putChar 41 = .ok (.ishr, 1) := dk_122 (dk_at dksJ16_putChar_1 17 rfl rfl)
theorem dJ16_putChar_42 : decode cJ16_putChar 42 = .ok (.i2b, 1) := dk_145 (dk_at dksJ16_putChar_1 18 rfl rfl)
theorem dJ16_putChar_43 : decode cJ16_putChar 43 = .ok (.bastore, 1) := dk_84 (dk_at dksJ16_putChar_1 19 rfl rfl)
theorem dJ16_putChar_44 : decode cJ16_putChar 44 = .ok (.aload_n 0, 1) := dk_42 (dk_at dksJ16_putChar_1 20 rfl rfl)
theorem dJ16_putChar_45 : decode cJ16_putChar 45 = .ok (.iload_n 1, 1) := dk_27 (dk_at dksJ16_putChar_1 21 rfl rfl)
theorem dJ16_putChar_46 : decode cJ16_putChar 46 = .ok (.iload_n 2, 1) := dk_28 (dk_at dksJ16_putChar_1 22 rfl rfl)
theorem dJ16_putChar_47 : decode cJ16_putChar 47 = .ok (.getstatic 63, 3) := dk_178 0 63 (dk_at dksJ16_putChar_2 0 rfl rfl)
theorem dJ16_putChar_50 : decode cJ16_putChar 50 = .ok (.ishr, 1) := dk_122 (dk_at dksJ16_putChar_2 3 rfl rfl)
theorem dJ16_putChar_51 : decode cJ16_putChar 51 = .ok (.i2b, 1) := dk_145 (dk_at dksJ16_putChar_2 4 rfl rfl)
theorem dJ16_putChar_52 : decode cJ16_putChar 52 = .ok (.bastore, 1) := dk_84 (dk_at dksJ16_putChar_2 5 rfl rfl)
theorem dJ16_putChar_53 : decode cJ16_putChar 53 = .ok (.return_, 1) := dk_177 (dk_at dksJ16_putChar_2 6 rfl rfl)
abbrev cJ16_inflate : ByteArray := prog_38_method_86_code
def yJ16_inflate : MethodName := ⟨RJ16, "inflate", "([BI[BII)V"⟩
def dkwJ16_inflate_1 : List UInt8 := [132, 1, 1, 51, 17, 0, 255, 126, 184, 0, 111, 132, 5, 1, 167, 255, 228, 177]
abbrev dktJ16_inflate_1 : List UInt8 := dkwJ16_inflate_1 ++ []
def dkwJ16_inflate_0 : List UInt8 := [29, 21, 4, 44, 184, 0, 173, 3, 54, 5, 21, 5, 21, 4, 162, 0, 27, 44, 29, 132, 3, 1, 42, 27]
abbrev dktJ16_inflate_0 : List UInt8 := dkwJ16_inflate_0 ++ dktJ16_inflate_1
theorem dksJ16_inflate_0 : cJ16_inflate.data.toList.drop 0 = dktJ16_inflate_0 := by decide +kernel
theorem dksJ16_inflate_1 : cJ16_inflate.data.toList.drop 24 = dktJ16_inflate_1 := dk_seg dksJ16_inflate_0 24 rfl rfl
theorem dJ16_inflate_0 : decode cJ16_inflate 0 = .ok (.iload_n 3, 1) := dk_29 (dk_at dksJ16_inflate_0 0 rfl rfl)
theorem dJ16_inflate_1 : decode cJ16_inflate 1 = .ok (.iload 4, 2) := dk_21 4 (dk_at dksJ16_inflate_0 1 rfl rfl)
theorem dJ16_inflate_3 : decode cJ16_inflate 3 = .ok (.aload_n 2, 1) := dk_44 (dk_at dksJ16_inflate_0 3 rfl rfl)
theorem dJ16_inflate_4 : decode cJ16_inflate 4 = .ok (.invokestatic 173, 3) := dk_184 0 173 (dk_at dksJ16_inflate_0 4 rfl rfl)
theorem dJ16_inflate_7 : decode cJ16_inflate 7 = .ok (.iconst 0, 1) := dk_3 (dk_at dksJ16_inflate_0 7 rfl rfl)
theorem dJ16_inflate_8 : decode cJ16_inflate 8 = .ok (.istore 5, 2) := dk_54 5 (dk_at dksJ16_inflate_0 8 rfl rfl)
theorem dJ16_inflate_10 : decode cJ16_inflate 10 = .ok (.iload 5, 2) := dk_21 5 (dk_at dksJ16_inflate_0 10 rfl rfl)
theorem dJ16_inflate_12 : decode cJ16_inflate 12 = .ok (.iload 4, 2) := dk_21 4 (dk_at dksJ16_inflate_0 12 rfl rfl)
theorem dJ16_inflate_14 : decode cJ16_inflate 14 = .ok (.if_icmp .ge 27, 3) := dk_162 0 27 (dk_at dksJ16_inflate_0 14 rfl rfl)
theorem dJ16_inflate_17 : decode cJ16_inflate 17 = .ok (.aload_n 2, 1) := dk_44 (dk_at dksJ16_inflate_0 17 rfl rfl)
theorem dJ16_inflate_18 : decode cJ16_inflate 18 = .ok (.iload_n 3, 1) := dk_29 (dk_at dksJ16_inflate_0 18 rfl rfl)
theorem dJ16_inflate_19 : decode cJ16_inflate 19 = .ok (.iinc 3 1, 3) := dk_132 3 1 (dk_at dksJ16_inflate_0 19 rfl rfl)
theorem dJ16_inflate_22 : decode cJ16_inflate 22 = .ok (.aload_n 0, 1) := dk_42 (dk_at dksJ16_inflate_0 22 rfl rfl)
theorem dJ16_inflate_23 : decode cJ16_inflate 23 = .ok (.iload_n 1, 1) := dk_27 (dk_at dksJ16_inflate_0 23 rfl rfl)
theorem dJ16_inflate_24 : decode cJ16_inflate 24 = .ok (.iinc 1 1, 3) := dk_132 1 1 (dk_at dksJ16_inflate_1 0 rfl rfl)
theorem dJ16_inflate_27 : decode cJ16_inflate 27 = .ok (.baload, 1) := dk_51 (dk_at dksJ16_inflate_1 3 rfl rfl)
theorem dJ16_inflate_28 : decode cJ16_inflate 28 = .ok (.sipush 255, 3) := dk_17 0 255 (dk_at dksJ16_inflate_1 4 rfl rfl)
theorem dJ16_inflate_31 : decode cJ16_inflate 31 = .ok (.iand, 1) := dk_126 (dk_at dksJ16_inflate_1 7 rfl rfl)
theorem dJ16_inflate_32 : decode cJ16_inflate 32 = .ok (.invokestatic 111, 3) := dk_184 0 111 (dk_at dksJ16_inflate_1 8 rfl rfl)
theorem dJ16_inflate_35 : decode cJ16_inflate 35 = .ok (.iinc 5 1, 3) := dk_132 5 1 (dk_at dksJ16_inflate_1 11 rfl rfl)
theorem dJ16_inflate_38 : decode cJ16_inflate 38 = .ok (.goto (-28), 3) := dk_167 255 228 (dk_at dksJ16_inflate_1 14 rfl rfl)
theorem dJ16_inflate_41 : decode cJ16_inflate 41 = .ok (.return_, 1) := dk_177 (dk_at dksJ16_inflate_1 17 rfl rfl)
abbrev cJ16_checkBoundsOffCount : ByteArray := prog_38_method_94_code
def yJ16_checkBoundsOffCount : MethodName := ⟨RJ16, "checkBoundsOffCount", "(II[B)V"⟩
def dkwJ16_checkBoundsOffCount_0 : List UInt8 := [26, 27, 44, 184, 0, 48, 184, 1, 163, 87, 177]
abbrev dktJ16_checkBoundsOffCount_0 : List UInt8 := dkwJ16_checkBoundsOffCount_0 ++ []
theorem dksJ16_checkBoundsOffCount_0 : cJ16_checkBoundsOffCount.data.toList.drop 0 = dktJ16_checkBoundsOffCount_0 := by decide +kernel
theorem dJ16_checkBoundsOffCount_0 : decode cJ16_checkBoundsOffCount 0 = .ok (.iload_n 0, 1) := dk_26 (dk_at dksJ16_checkBoundsOffCount_0 0 rfl rfl)
theorem dJ16_checkBoundsOffCount_1 : decode cJ16_checkBoundsOffCount 1 = .ok (.iload_n 1, 1) := dk_27 (dk_at dksJ16_checkBoundsOffCount_0 1 rfl rfl)
theorem dJ16_checkBoundsOffCount_2 : decode cJ16_checkBoundsOffCount 2 = .ok (.aload_n 2, 1) := dk_44 (dk_at dksJ16_checkBoundsOffCount_0 2 rfl rfl)
theorem dJ16_checkBoundsOffCount_3 : decode cJ16_checkBoundsOffCount 3 = .ok (.invokestatic 48, 3) := dk_184 0 48 (dk_at dksJ16_checkBoundsOffCount_0 3 rfl rfl)
theorem dJ16_checkBoundsOffCount_6 : decode cJ16_checkBoundsOffCount 6 = .ok (.invokestatic 419, 3) := dk_184 1 163 (dk_at dksJ16_checkBoundsOffCount_0 6 rfl rfl)
theorem dJ16_checkBoundsOffCount_9 : decode cJ16_checkBoundsOffCount 9 = .ok (.pop, 1) := dk_87 (dk_at dksJ16_checkBoundsOffCount_0 9 rfl rfl)
theorem dJ16_checkBoundsOffCount_10 : decode cJ16_checkBoundsOffCount 10 = .ok (.return_, 1) := dk_177 (dk_at dksJ16_checkBoundsOffCount_0 10 rfl rfl)
abbrev cJ16_getChars : ByteArray := prog_38_method_77_code
def yJ16_getChars : MethodName := ⟨RJ16, "getChars", "(III[B)I"⟩
def dkwJ16_getChars_1 : List UInt8 := [159, 0, 11, 187, 0, 52, 89, 183, 0, 66, 191, 21, 4, 172]
abbrev dktJ16_getChars_1 : List UInt8 := dkwJ16_getChars_1 ++ []
def dkwJ16_getChars_0 : List UInt8 := [27, 28, 45, 184, 0, 96, 26, 28, 45, 184, 1, 137, 54, 4, 178, 0, 44, 154, 0, 17, 27, 21, 4]
abbrev dktJ16_getChars_0 : List UInt8 := dkwJ16_getChars_0 ++ dktJ16_getChars_1
theorem dksJ16_getChars_0 : cJ16_getChars.data.toList.drop 0 = dktJ16_getChars_0 := by decide +kernel
theorem dksJ16_getChars_1 : cJ16_getChars.data.toList.drop 23 = dktJ16_getChars_1 := dk_seg dksJ16_getChars_0 23 rfl rfl
theorem dJ16_getChars_0 : decode cJ16_getChars 0 = .ok (.iload_n 1, 1) := dk_27 (dk_at dksJ16_getChars_0 0 rfl rfl)
theorem dJ16_getChars_1 : decode cJ16_getChars 1 = .ok (.iload_n 2, 1) := dk_28 (dk_at dksJ16_getChars_0 1 rfl rfl)
theorem dJ16_getChars_2 : decode cJ16_getChars 2 = .ok (.aload_n 3, 1) := dk_45 (dk_at dksJ16_getChars_0 2 rfl rfl)
theorem dJ16_getChars_3 : decode cJ16_getChars 3 = .ok (.invokestatic 96, 3) := dk_184 0 96 (dk_at dksJ16_getChars_0 3 rfl rfl)
theorem dJ16_getChars_6 : decode cJ16_getChars 6 = .ok (.iload_n 0, 1) := dk_26 (dk_at dksJ16_getChars_0 6 rfl rfl)
theorem dJ16_getChars_7 : decode cJ16_getChars 7 = .ok (.iload_n 2, 1) := dk_28 (dk_at dksJ16_getChars_0 7 rfl rfl)
theorem dJ16_getChars_8 : decode cJ16_getChars 8 = .ok (.aload_n 3, 1) := dk_45 (dk_at dksJ16_getChars_0 8 rfl rfl)
theorem dJ16_getChars_9 : decode cJ16_getChars 9 = .ok (.invokestatic 393, 3) := dk_184 1 137 (dk_at dksJ16_getChars_0 9 rfl rfl)
theorem dJ16_getChars_12 : decode cJ16_getChars 12 = .ok (.istore 4, 2) := dk_54 4 (dk_at dksJ16_getChars_0 12 rfl rfl)
theorem dJ16_getChars_14 : decode cJ16_getChars 14 = .ok (.getstatic 44, 3) := dk_178 0 44 (dk_at dksJ16_getChars_0 14 rfl rfl)
theorem dJ16_getChars_17 : decode cJ16_getChars 17 = .ok (.ifCond .ne 17, 3) := dk_154 0 17 (dk_at dksJ16_getChars_0 17 rfl rfl)
theorem dJ16_getChars_20 : decode cJ16_getChars 20 = .ok (.iload_n 1, 1) := dk_27 (dk_at dksJ16_getChars_0 20 rfl rfl)
theorem dJ16_getChars_21 : decode cJ16_getChars 21 = .ok (.iload 4, 2) := dk_21 4 (dk_at dksJ16_getChars_0 21 rfl rfl)
theorem dJ16_getChars_23 : decode cJ16_getChars 23 = .ok (.if_icmp .eq 11, 3) := dk_159 0 11 (dk_at dksJ16_getChars_1 0 rfl rfl)
theorem dJ16_getChars_26 : decode cJ16_getChars 26 = .ok (.new 52, 3) := dk_187 0 52 (dk_at dksJ16_getChars_1 3 rfl rfl)
theorem dJ16_getChars_29 : decode cJ16_getChars 29 = .ok (.dup, 1) := dk_89 (dk_at dksJ16_getChars_1 6 rfl rfl)
theorem dJ16_getChars_30 : decode cJ16_getChars 30 = .ok (.invokespecial 66, 3) := dk_183 0 66 (dk_at dksJ16_getChars_1 7 rfl rfl)
theorem dJ16_getChars_33 : decode cJ16_getChars 33 = .ok (.athrow, 1) := dk_191 (dk_at dksJ16_getChars_1 10 rfl rfl)
theorem dJ16_getChars_34 : decode cJ16_getChars 34 = .ok (.iload 4, 2) := dk_21 4 (dk_at dksJ16_getChars_1 11 rfl rfl)
theorem dJ16_getChars_36 : decode cJ16_getChars 36 = .ok (.ireturn, 1) := dk_172 (dk_at dksJ16_getChars_1 13 rfl rfl)
abbrev cJ16_getChars_2 : ByteArray := prog_38_method_89_code
def yJ16_getChars_2 : MethodName := ⟨RJ16, "getChars", "(II[B)I"⟩
def dkwJ16_getChars_2_5 : List UInt8 := [132, 5, 255, 21, 5, 16, 45, 184, 0, 111, 21, 5, 172]
abbrev dktJ16_getChars_2_5 : List UInt8 := dkwJ16_getChars_2_5 ++ []
def dkwJ16_getChars_2_4 : List UInt8 := [162, 0, 18, 44, 132, 5, 255, 21, 5, 178, 1, 151, 26, 116, 51, 184, 0, 111, 21, 6, 153, 0, 14, 44]
abbrev dktJ16_getChars_2_4 : List UInt8 := dkwJ16_getChars_2_4 ++ dktJ16_getChars_2_5
def dkwJ16_getChars_2_3 : List UInt8 := [184, 0, 111, 167, 255, 205, 44, 132, 5, 255, 21, 5, 178, 1, 147, 26, 116, 51, 184, 0, 111, 26, 16, 247]
abbrev dktJ16_getChars_2_3 : List UInt8 := dkwJ16_getChars_2_3 ++ dktJ16_getChars_2_4
def dkwJ16_getChars_2_2 : List UInt8 := [21, 5, 178, 1, 147, 21, 4, 51, 184, 0, 111, 44, 132, 5, 255, 21, 5, 178, 1, 151, 21, 4, 51]
abbrev dktJ16_getChars_2_2 : List UInt8 := dkwJ16_getChars_2_2 ++ dktJ16_getChars_2_3
def dkwJ16_getChars_2_1 : List UInt8 := [16, 156, 163, 0, 51, 26, 16, 100, 108, 62, 29, 16, 100, 104, 26, 100, 54, 4, 29, 59, 44, 132, 5, 255]
abbrev dktJ16_getChars_2_1 : List UInt8 := dkwJ16_getChars_2_1 ++ dktJ16_getChars_2_2
def dkwJ16_getChars_2_0 : List UInt8 := [27, 54, 5, 26, 156, 0, 7, 4, 167, 0, 4, 3, 54, 6, 21, 6, 154, 0, 6, 26, 116, 59, 26]
abbrev dktJ16_getChars_2_0 : List UInt8 := dkwJ16_getChars_2_0 ++ dktJ16_getChars_2_1
theorem dksJ16_getChars_2_0 : cJ16_getChars_2.data.toList.drop 0 = dktJ16_getChars_2_0 := by decide +kernel
theorem dksJ16_getChars_2_1 : cJ16_getChars_2.data.toList.drop 23 = dktJ16_getChars_2_1 := dk_seg dksJ16_getChars_2_0 23 rfl rfl
theorem dksJ16_getChars_2_2 : cJ16_getChars_2.data.toList.drop 47 = dktJ16_getChars_2_2 := dk_seg dksJ16_getChars_2_1 24 rfl rfl
theorem dksJ16_getChars_2_3 : cJ16_getChars_2.data.toList.drop 70 = dktJ16_getChars_2_3 := dk_seg dksJ16_getChars_2_2 23 rfl rfl
theorem dksJ16_getChars_2_4 : cJ16_getChars_2.data.toList.drop 94 = dktJ16_getChars_2_4 := dk_seg dksJ16_getChars_2_3 24 rfl rfl
theorem dksJ16_getChars_2_5 : cJ16_getChars_2.data.toList.drop 118 = dktJ16_getChars_2_5 := dk_seg dksJ16_getChars_2_4 24 rfl rfl
theorem dJ16_getChars_2_0 : decode cJ16_getChars_2 0 = .ok (.iload_n 1, 1) := dk_27 (dk_at dksJ16_getChars_2_0 0 rfl rfl)
theorem dJ16_getChars_2_1 : decode cJ16_getChars_2 1 = .ok (.istore 5, 2) := dk_54 5 (dk_at dksJ16_getChars_2_0 1 rfl rfl)
theorem dJ16_getChars_2_3 : decode cJ16_getChars_2 3 = .ok (.iload_n 0, 1) := dk_26 (dk_at dksJ16_getChars_2_0 3 rfl rfl)
theorem dJ16_getChars_2_4 : decode cJ16_getChars_2 4 = .ok (.ifCond .ge 7, 3) := dk_156 0 7 (dk_at dksJ16_getChars_2_0 4 rfl rfl)
theorem dJ16_getChars_2_7 : decode cJ16_getChars_2 7 = .ok (.iconst 1, 1) := dk_4 (dk_at dksJ16_getChars_2_0 7 rfl rfl)
theorem dJ16_getChars_2_8 : decode cJ16_getChars_2 8 = .ok (.goto 4, 3) := dk_167 0 4 (dk_at dksJ16_getChars_2_0 8 rfl rfl)
theorem dJ16_getChars_2_11 : decode cJ16_getChars_2 11 = .ok (.iconst 0, 1) := dk_3 (dk_at dksJ16_getChars_2_0 11 rfl rfl)
theorem dJ16_getChars_2_12 : decode cJ16_getChars_2 12 = .ok (.istore 6, 2) := dk_54 6 (dk_at dksJ16_getChars_2_0 12 rfl rfl)
theorem dJ16_getChars_2_14 : decode cJ16_getChars_2 14 = .ok (.iload 6, 2) := dk_21 6 (dk_at dksJ16_getChars_2_0 14 rfl rfl)
theorem dJ16_getChars_2_16 : decode cJ16_getChars_2 16 = .ok (.ifCond .ne 6, 3) := dk_154 0 6 (dk_at dksJ16_getChars_2_0 16 rfl rfl)
theorem dJ16_getChars_2_19 : decode cJ16_getChars_2 19 = .ok (.iload_n 0, 1) := dk_26 (dk_at dksJ16_getChars_2_0 19 rfl rfl)
theorem dJ16_getChars_2_20 : decode cJ16_getChars_2 20 = .ok (.ineg, 1) := dk_116 (dk_at dksJ16_getChars_2_0 20 rfl rfl)
theorem dJ16_getChars_2_21 : decode cJ16_getChars_2 21 = .ok (.istore_n 0, 1) := dk_59 (dk_at dksJ16_getChars_2_0 21 rfl rfl)
theorem dJ16_getChars_2_22 : decode cJ16_getChars_2 22 = .ok (.iload_n 0, 1) := dk_26 (dk_at dksJ16_getChars_2_0 22 rfl rfl)
theorem dJ16_getChars_2_23 : decode cJ16_getChars_2 23 = .ok (.bipush (-100), 2) := dk_16 156 (dk_at dksJ16_getChars_2_1 0 rfl rfl)
theorem dJ16_getChars_2_25 : decode cJ16_getChars_2 25 = .ok (.if_icmp .gt 51, 3) := dk_163 0 51 (dk_at dksJ16_getChars_2_1 2 rfl rfl)
theorem dJ16_getChars_2_28 : decode cJ16_getChars_2 28 = .ok (.iload_n 0, 1) := dk_26 (dk_at dksJ16_getChars_2_1 5 rfl rfl)
theorem dJ16_getChars_2_29 : decode cJ16_getChars_2 29 = .ok (.bipush 100, 2) := dk_16 100 (dk_at dksJ16_getChars_2_1 6 rfl rfl)
theorem dJ16_getChars_2_31 : decode cJ16_getChars_2 31 = .ok (.idiv, 1) := dk_108 (dk_at dksJ16_getChars_2_1 8 rfl rfl)
theorem dJ16_getChars_2_32 : decode cJ16_getChars_2 32 = .ok (.istore_n 3, 1) := dk_62 (dk_at dksJ16_getChars_2_1 9 rfl rfl)
theorem dJ16_getChars_2_33 : decode cJ16_getChars_2 33 = .ok (.iload_n 3, 1) := dk_29 (dk_at dksJ16_getChars_2_1 10 rfl rfl)
theorem dJ16_getChars_2_34 : decode cJ16_getChars_2 34 = .ok (.bipush 100, 2) := dk_16 100 (dk_at dksJ16_getChars_2_1 11 rfl rfl)
theorem dJ16_getChars_2_36 : decode cJ16_getChars_2 36 = .ok (.imul, 1) := dk_104 (dk_at dksJ16_getChars_2_1 13 rfl rfl)
theorem dJ16_getChars_2_37 : decode cJ16_getChars_2 37 = .ok (.iload_n 0, 1) := dk_26 (dk_at dksJ16_getChars_2_1 14 rfl rfl)
theorem dJ16_getChars_2_38 : decode cJ16_getChars_2 38 = .ok (.isub, 1) := dk_100 (dk_at dksJ16_getChars_2_1 15 rfl rfl)
theorem dJ16_getChars_2_39 : decode cJ16_getChars_2 39 = .ok (.istore 4, 2) := dk_54 4 (dk_at dksJ16_getChars_2_1 16 rfl rfl)
theorem dJ16_getChars_2_41 : decode cJ16_getChars_2 41 = .ok (.iload_n 3, 1) := dk_29 (dk_at dksJ16_getChars_2_1 18 rfl rfl)
theorem dJ16_getChars_2_42 : decode cJ16_getChars_2 42 = .ok (.istore_n 0, 1) := dk_59 (dk_at dksJ16_getChars_2_1 19 rfl rfl)
theorem dJ16_getChars_2_43 : decode cJ16_getChars_2 43 = .ok (.aload_n 2, 1) := dk_44 (dk_at dksJ16_getChars_2_1 20 rfl rfl)
theorem dJ16_getChars_2_44 : decode cJ16_getChars_2 44 = .ok (.iinc 5 (-1), 3) := dk_132 5 255 (dk_at dksJ16_getChars_2_1 21 rfl rfl)
theorem dJ16_getChars_2_47 : decode cJ16_getChars_2 47 = .ok (.iload 5, 2) := dk_21 5 (dk_at dksJ16_getChars_2_2 0 rfl rfl)
theorem dJ16_getChars_2_49 : decode cJ16_getChars_2 49 = .ok (.getstatic 403, 3) := dk_178 1 147 (dk_at dksJ16_getChars_2_2 2 rfl rfl)
theorem dJ16_getChars_2_52 : decode cJ16_getChars_2 52 = .ok (.iload 4, 2) := dk_21 4 (dk_at dksJ16_getChars_2_2 5 rfl rfl)
theorem dJ16_getChars_2_54 : decode cJ16_getChars_2 54 = .ok (.baload, 1) := dk_51 (dk_at dksJ16_getChars_2_2 7 rfl rfl)
theorem dJ16_getChars_2_55 : decode cJ16_getChars_2 55 = .ok (.invokestatic 111, 3) := dk_184 0 111 (dk_at dksJ16_getChars_2_2 8 rfl rfl)
theorem dJ16_getChars_2_58 : decode cJ16_getChars_2 58 = .ok (.aload_n 2, 1) := dk_44 (dk_at dksJ16_getChars_2_2 11 rfl rfl)
theorem dJ16_getChars_2_59 : decode cJ16_getChars_2 59 = .ok (.iinc 5 (-1), 3) := dk_132 5 255 (dk_at dksJ16_getChars_2_2 12 rfl rfl)
theorem dJ16_getChars_2_62 : decode cJ16_getChars_2 62 = .ok (.iload 5, 2) := dk_21 5 (dk_at dksJ16_getChars_2_2 15 rfl rfl)
theorem dJ16_getChars_2_64 : decode cJ16_getChars_2 64 = .ok (.getstatic 407, 3) := dk_178 1 151 (dk_at dksJ16_getChars_2_2 17 rfl rfl)
theorem dJ16_getChars_2_67 : decode cJ16_getChars_2 67 = .ok (.iload 4, 2) := dk_21 4 (dk_at dksJ16_getChars_2_2 20 rfl rfl)
theorem dJ16_getChars_2_69 : decode cJ16_getChars_2 69 = .ok (.baload, 1) := dk_51 (dk_at dksJ16_getChars_2_2 22 rfl rfl)
theorem dJ16_getChars_2_70 : decode cJ16_getChars_2 70 = .ok (.invokestatic 111, 3) := dk_184 0 111 (dk_at dksJ16_getChars_2_3 0 rfl rfl)
theorem dJ16_getChars_2_73 : decode cJ16_getChars_2 73 = .ok (.goto (-51), 3) := dk_167 255 205 (dk_at dksJ16_getChars_2_3 3 rfl rfl)
theorem dJ16_getChars_2_76 : decode cJ16_getChars_2 76 = .ok (.aload_n 2, 1) := dk_44 (dk_at dksJ16_getChars_2_3 6 rfl rfl)
theorem dJ16_getChars_2_77 : decode cJ16_getChars_2 77 = .ok (.iinc 5 (-1), 3) := dk_132 5 255 (dk_at dksJ16_getChars_2_3 7 rfl rfl)
theorem dJ16_getChars_2_80 : decode cJ16_getChars_2 80 = .ok (.iload 5, 2) := dk_21 5 (dk_at dksJ16_getChars_2_3 10 rfl rfl)
theorem dJ16_getChars_2_82 : decode cJ16_getChars_2 82 = .ok (.getstatic 403, 3) := dk_178 1 147 (dk_at dksJ16_getChars_2_3 12 rfl rfl)
theorem dJ16_getChars_2_85 : decode cJ16_getChars_2 85 = .ok (.iload_n 0, 1) := dk_26 (dk_at dksJ16_getChars_2_3 15 rfl rfl)
theorem dJ16_getChars_2_86 : decode cJ16_getChars_2 86 = .ok (.ineg, 1) := dk_116 (dk_at dksJ16_getChars_2_3 16 rfl rfl)
theorem dJ16_getChars_2_87 : decode cJ16_getChars_2 87 = .ok (.baload, 1) := dk_51 (dk_at dksJ16_getChars_2_3 17 rfl rfl)
theorem dJ16_getChars_2_88 : decode cJ16_getChars_2 88 = .ok (.invokestatic 111, 3) := dk_184 0 111 (dk_at dksJ16_getChars_2_3 18 rfl rfl)
theorem dJ16_getChars_2_91 : decode cJ16_getChars_2 91 = .ok (.iload_n 0, 1) := dk_26 (dk_at dksJ16_getChars_2_3 21 rfl rfl)
theorem dJ16_getChars_2_92 : decode cJ16_getChars_2 92 = .ok (.bipush (-9), 2) := dk_16 247 (dk_at dksJ16_getChars_2_3 22 rfl rfl)
theorem dJ16_getChars_2_94 : decode cJ16_getChars_2 94 = .ok (.if_icmp .ge 18, 3) := dk_162 0 18 (dk_at dksJ16_getChars_2_4 0 rfl rfl)
theorem dJ16_getChars_2_97 : decode cJ16_getChars_2 97 = .ok (.aload_n 2, 1) := dk_44 (dk_at dksJ16_getChars_2_4 3 rfl rfl)
theorem dJ16_getChars_2_98 : decode cJ16_getChars_2 98 = .ok (.iinc 5 (-1), 3) := dk_132 5 255 (dk_at dksJ16_getChars_2_4 4 rfl rfl)
theorem dJ16_getChars_2_101 : decode cJ16_getChars_2 101 = .ok (.iload 5, 2) := dk_21 5 (dk_at dksJ16_getChars_2_4 7 rfl rfl)
theorem dJ16_getChars_2_103 : decode cJ16_getChars_2 103 = .ok (.getstatic 407, 3) := dk_178 1 151 (dk_at dksJ16_getChars_2_4 9 rfl rfl)
theorem dJ16_getChars_2_106 : decode cJ16_getChars_2 106 = .ok (.iload_n 0, 1) := dk_26 (dk_at dksJ16_getChars_2_4 12 rfl rfl)
theorem dJ16_getChars_2_107 : decode cJ16_getChars_2 107 = .ok (.ineg, 1) := dk_116 (dk_at dksJ16_getChars_2_4 13 rfl rfl)
theorem dJ16_getChars_2_108 : decode cJ16_getChars_2 108 = .ok (.baload, 1) := dk_51 (dk_at dksJ16_getChars_2_4 14 rfl rfl)
theorem dJ16_getChars_2_109 : decode cJ16_getChars_2 109 = .ok (.invokestatic 111, 3) := dk_184 0 111 (dk_at dksJ16_getChars_2_4 15 rfl rfl)
theorem dJ16_getChars_2_112 : decode cJ16_getChars_2 112 = .ok (.iload 6, 2) := dk_21 6 (dk_at dksJ16_getChars_2_4 18 rfl rfl)
theorem dJ16_getChars_2_114 : decode cJ16_getChars_2 114 = .ok (.ifCond .eq 14, 3) := dk_153 0 14 (dk_at dksJ16_getChars_2_4 20 rfl rfl)
theorem dJ16_getChars_2_117 : decode cJ16_getChars_2 117 = .ok (.aload_n 2, 1) := dk_44 (dk_at dksJ16_getChars_2_4 23 rfl rfl)
theorem dJ16_getChars_2_118 : decode cJ16_getChars_2 118 = .ok (.iinc 5 (-1), 3) := dk_132 5 255 (dk_at dksJ16_getChars_2_5 0 rfl rfl)
theorem dJ16_getChars_2_121 : decode cJ16_getChars_2 121 = .ok (.iload 5, 2) := dk_21 5 (dk_at dksJ16_getChars_2_5 3 rfl rfl)
theorem dJ16_getChars_2_123 : decode cJ16_getChars_2 123 = .ok (.bipush 45, 2) := dk_16 45 (dk_at dksJ16_getChars_2_5 5 rfl rfl)
theorem dJ16_getChars_2_125 : decode cJ16_getChars_2 125 = .ok (.invokestatic 111, 3) := dk_184 0 111 (dk_at dksJ16_getChars_2_5 7 rfl rfl)
theorem dJ16_getChars_2_128 : decode cJ16_getChars_2 128 = .ok (.iload 5, 2) := dk_21 5 (dk_at dksJ16_getChars_2_5 10 rfl rfl)
theorem dJ16_getChars_2_130 : decode cJ16_getChars_2 130 = .ok (.ireturn, 1) := dk_172 (dk_at dksJ16_getChars_2_5 12 rfl rfl)
abbrev cJ16_compress : ByteArray := prog_38_method_17_code
def yJ16_compress : MethodName := ⟨RJ16, "compress", "([BII)[B"⟩
def dkwJ16_compress_2 : List UInt8 := [25, 5, 3, 45, 3, 28, 184, 0, 123, 28, 159, 0, 6, 25, 5, 176, 45, 176]
abbrev dktJ16_compress_2 : List UInt8 := dkwJ16_compress_2 ++ []
def dkwJ16_compress_1 : List UInt8 := [27, 28, 96, 184, 0, 11, 184, 0, 126, 58, 5, 25, 5, 21, 4, 184, 0, 71, 17, 0, 255, 163, 0, 16]
abbrev dktJ16_compress_1 : List UInt8 := dkwJ16_compress_1 ++ dktJ16_compress_2
def dkwJ16_compress_0 : List UInt8 := [28, 188, 8, 78, 42, 27, 45, 3, 28, 184, 0, 123, 54, 4, 21, 4, 28, 159, 0, 47, 42, 27, 4, 120]
abbrev dktJ16_compress_0 : List UInt8 := dkwJ16_compress_0 ++ dktJ16_compress_1
theorem dksJ16_compress_0 : cJ16_compress.data.toList.drop 0 = dktJ16_compress_0 := by decide +kernel
theorem dksJ16_compress_1 : cJ16_compress.data.toList.drop 24 = dktJ16_compress_1 := dk_seg dksJ16_compress_0 24 rfl rfl
theorem dksJ16_compress_2 : cJ16_compress.data.toList.drop 48 = dktJ16_compress_2 := dk_seg dksJ16_compress_1 24 rfl rfl
theorem dJ16_compress_0 : decode cJ16_compress 0 = .ok (.iload_n 2, 1) := dk_28 (dk_at dksJ16_compress_0 0 rfl rfl)
theorem dJ16_compress_1 : decode cJ16_compress 1 = .ok (.newarray .byte, 2) := dk_188_8 (dk_at dksJ16_compress_0 1 rfl rfl)
theorem dJ16_compress_3 : decode cJ16_compress 3 = .ok (.astore_n 3, 1) := dk_78 (dk_at dksJ16_compress_0 3 rfl rfl)
theorem dJ16_compress_4 : decode cJ16_compress 4 = .ok (.aload_n 0, 1) := dk_42 (dk_at dksJ16_compress_0 4 rfl rfl)
theorem dJ16_compress_5 : decode cJ16_compress 5 = .ok (.iload_n 1, 1) := dk_27 (dk_at dksJ16_compress_0 5 rfl rfl)
theorem dJ16_compress_6 : decode cJ16_compress 6 = .ok (.aload_n 3, 1) := dk_45 (dk_at dksJ16_compress_0 6 rfl rfl)
theorem dJ16_compress_7 : decode cJ16_compress 7 = .ok (.iconst 0, 1) := dk_3 (dk_at dksJ16_compress_0 7 rfl rfl)
theorem dJ16_compress_8 : decode cJ16_compress 8 = .ok (.iload_n 2, 1) := dk_28 (dk_at dksJ16_compress_0 8 rfl rfl)
theorem dJ16_compress_9 : decode cJ16_compress 9 = .ok (.invokestatic 123, 3) := dk_184 0 123 (dk_at dksJ16_compress_0 9 rfl rfl)
theorem dJ16_compress_12 : decode cJ16_compress 12 = .ok (.istore 4, 2) := dk_54 4 (dk_at dksJ16_compress_0 12 rfl rfl)
theorem dJ16_compress_14 : decode cJ16_compress 14 = .ok (.iload 4, 2) := dk_21 4 (dk_at dksJ16_compress_0 14 rfl rfl)
theorem dJ16_compress_16 : decode cJ16_compress 16 = .ok (.iload_n 2, 1) := dk_28 (dk_at dksJ16_compress_0 16 rfl rfl)
theorem dJ16_compress_17 : decode cJ16_compress 17 = .ok (.if_icmp .eq 47, 3) := dk_159 0 47 (dk_at dksJ16_compress_0 17 rfl rfl)
theorem dJ16_compress_20 : decode cJ16_compress 20 = .ok (.aload_n 0, 1) := dk_42 (dk_at dksJ16_compress_0 20 rfl rfl)
theorem dJ16_compress_21 : decode cJ16_compress 21 = .ok (.iload_n 1, 1) := dk_27 (dk_at dksJ16_compress_0 21 rfl rfl)
theorem dJ16_compress_22 : decode cJ16_compress 22 = .ok (.iconst 1, 1) := dk_4 (dk_at dksJ16_compress_0 22 rfl rfl)
theorem dJ16_compress_23 : decode cJ16_compress 23 = .ok (.ishl, 1) := dk_120 (dk_at dksJ16_compress_0 23 rfl rfl)
theorem dJ16_compress_24 : decode cJ16_compress 24 = .ok (.iload_n 1, 1) := dk_27 (dk_at dksJ16_compress_1 0 rfl rfl)
theorem dJ16_compress_25 : decode cJ16_compress 25 = .ok (.iload_n 2, 1) := dk_28 (dk_at dksJ16_compress_1 1 rfl rfl)
theorem dJ16_compress_26 : decode cJ16_compress 26 = .ok (.iadd, 1) := dk_96 (dk_at dksJ16_compress_1 2 rfl rfl)
theorem dJ16_compress_27 : decode cJ16_compress 27 = .ok (.invokestatic 11, 3) := dk_184 0 11 (dk_at dksJ16_compress_1 3 rfl rfl)
theorem dJ16_compress_30 : decode cJ16_compress 30 = .ok (.invokestatic 126, 3) := dk_184 0 126 (dk_at dksJ16_compress_1 6 rfl rfl)
theorem dJ16_compress_33 : decode cJ16_compress 33 = .ok (.astore 5, 2) := dk_58 5 (dk_at dksJ16_compress_1 9 rfl rfl)
theorem dJ16_compress_35 : decode cJ16_compress 35 = .ok (.aload 5, 2) := dk_25 5 (dk_at dksJ16_compress_1 11 rfl rfl)
theorem dJ16_compress_37 : decode cJ16_compress 37 = .ok (.iload 4, 2) := dk_21 4 (dk_at dksJ16_compress_1 13 rfl rfl)
theorem dJ16_compress_39 : decode cJ16_compress 39 = .ok (.invokestatic 71, 3) := dk_184 0 71 (dk_at dksJ16_compress_1 15 rfl rfl)
theorem dJ16_compress_42 : decode cJ16_compress 42 = .ok (.sipush 255, 3) := dk_17 0 255 (dk_at dksJ16_compress_1 18 rfl rfl)
theorem dJ16_compress_45 : decode cJ16_compress 45 = .ok (.if_icmp .gt 16, 3) := dk_163 0 16 (dk_at dksJ16_compress_1 21 rfl rfl)
theorem dJ16_compress_48 : decode cJ16_compress 48 = .ok (.aload 5, 2) := dk_25 5 (dk_at dksJ16_compress_2 0 rfl rfl)
theorem dJ16_compress_50 : decode cJ16_compress 50 = .ok (.iconst 0, 1) := dk_3 (dk_at dksJ16_compress_2 2 rfl rfl)
theorem dJ16_compress_51 : decode cJ16_compress 51 = .ok (.aload_n 3, 1) := dk_45 (dk_at dksJ16_compress_2 3 rfl rfl)
theorem dJ16_compress_52 : decode cJ16_compress 52 = .ok (.iconst 0, 1) := dk_3 (dk_at dksJ16_compress_2 4 rfl rfl)
theorem dJ16_compress_53 : decode cJ16_compress 53 = .ok (.iload_n 2, 1) := dk_28 (dk_at dksJ16_compress_2 5 rfl rfl)
theorem dJ16_compress_54 : decode cJ16_compress 54 = .ok (.invokestatic 123, 3) := dk_184 0 123 (dk_at dksJ16_compress_2 6 rfl rfl)
theorem dJ16_compress_57 : decode cJ16_compress 57 = .ok (.iload_n 2, 1) := dk_28 (dk_at dksJ16_compress_2 9 rfl rfl)
theorem dJ16_compress_58 : decode cJ16_compress 58 = .ok (.if_icmp .eq 6, 3) := dk_159 0 6 (dk_at dksJ16_compress_2 10 rfl rfl)
theorem dJ16_compress_61 : decode cJ16_compress 61 = .ok (.aload 5, 2) := dk_25 5 (dk_at dksJ16_compress_2 13 rfl rfl)
theorem dJ16_compress_63 : decode cJ16_compress 63 = .ok (.areturn, 1) := dk_176 (dk_at dksJ16_compress_2 15 rfl rfl)
theorem dJ16_compress_64 : decode cJ16_compress 64 = .ok (.aload_n 3, 1) := dk_45 (dk_at dksJ16_compress_2 16 rfl rfl)
theorem dJ16_compress_65 : decode cJ16_compress 65 = .ok (.areturn, 1) := dk_176 (dk_at dksJ16_compress_2 17 rfl rfl)
abbrev cJ16_compress_2 : ByteArray := prog_38_method_22_code
def yJ16_compress_2 : MethodName := ⟨RJ16, "compress", "([BI[BII)I"⟩
def dkwJ16_compress_2_2 : List UInt8 := [132, 5, 1, 167, 255, 216, 21, 4, 172]
abbrev dktJ16_compress_2_2 : List UInt8 := dkwJ16_compress_2_2 ++ []
def dkwJ16_compress_2_1 : List UInt8 := [21, 6, 17, 0, 255, 164, 0, 6, 21, 5, 172, 44, 29, 21, 6, 145, 84, 132, 1, 1, 132, 3, 1]
abbrev dktJ16_compress_2_1 : List UInt8 := dkwJ16_compress_2_1 ++ dktJ16_compress_2_2
def dkwJ16_compress_2_0 : List UInt8 := [27, 21, 4, 42, 184, 0, 173, 3, 54, 5, 21, 5, 21, 4, 162, 0, 39, 42, 27, 184, 0, 71, 54, 6]
abbrev dktJ16_compress_2_0 : List UInt8 := dkwJ16_compress_2_0 ++ dktJ16_compress_2_1
theorem dksJ16_compress_2_0 : cJ16_compress_2.data.toList.drop 0 = dktJ16_compress_2_0 := by decide +kernel
theorem dksJ16_compress_2_1 : cJ16_compress_2.data.toList.drop 24 = dktJ16_compress_2_1 := dk_seg dksJ16_compress_2_0 24 rfl rfl
theorem dksJ16_compress_2_2 : cJ16_compress_2.data.toList.drop 47 = dktJ16_compress_2_2 := dk_seg dksJ16_compress_2_1 23 rfl rfl
theorem dJ16_compress_2_0 : decode cJ16_compress_2 0 = .ok (.iload_n 1, 1) := dk_27 (dk_at dksJ16_compress_2_0 0 rfl rfl)
theorem dJ16_compress_2_1 : decode cJ16_compress_2 1 = .ok (.iload 4, 2) := dk_21 4 (dk_at dksJ16_compress_2_0 1 rfl rfl)
theorem dJ16_compress_2_3 : decode cJ16_compress_2 3 = .ok (.aload_n 0, 1) := dk_42 (dk_at dksJ16_compress_2_0 3 rfl rfl)
theorem dJ16_compress_2_4 : decode cJ16_compress_2 4 = .ok (.invokestatic 173, 3) := dk_184 0 173 (dk_at dksJ16_compress_2_0 4 rfl rfl)
theorem dJ16_compress_2_7 : decode cJ16_compress_2 7 = .ok (.iconst 0, 1) := dk_3 (dk_at dksJ16_compress_2_0 7 rfl rfl)
theorem dJ16_compress_2_8 : decode cJ16_compress_2 8 = .ok (.istore 5, 2) := dk_54 5 (dk_at dksJ16_compress_2_0 8 rfl rfl)
theorem dJ16_compress_2_10 : decode cJ16_compress_2 10 = .ok (.iload 5, 2) := dk_21 5 (dk_at dksJ16_compress_2_0 10 rfl rfl)
theorem dJ16_compress_2_12 : decode cJ16_compress_2 12 = .ok (.iload 4, 2) := dk_21 4 (dk_at dksJ16_compress_2_0 12 rfl rfl)
theorem dJ16_compress_2_14 : decode cJ16_compress_2 14 = .ok (.if_icmp .ge 39, 3) := dk_162 0 39 (dk_at dksJ16_compress_2_0 14 rfl rfl)
theorem dJ16_compress_2_17 : decode cJ16_compress_2 17 = .ok (.aload_n 0, 1) := dk_42 (dk_at dksJ16_compress_2_0 17 rfl rfl)
theorem dJ16_compress_2_18 : decode cJ16_compress_2 18 = .ok (.iload_n 1, 1) := dk_27 (dk_at dksJ16_compress_2_0 18 rfl rfl)
theorem dJ16_compress_2_19 : decode cJ16_compress_2 19 = .ok (.invokestatic 71, 3) := dk_184 0 71 (dk_at dksJ16_compress_2_0 19 rfl rfl)
theorem dJ16_compress_2_22 : decode cJ16_compress_2 22 = .ok (.istore 6, 2) := dk_54 6 (dk_at dksJ16_compress_2_0 22 rfl rfl)
theorem dJ16_compress_2_24 : decode cJ16_compress_2 24 = .ok (.iload 6, 2) := dk_21 6 (dk_at dksJ16_compress_2_1 0 rfl rfl)
theorem dJ16_compress_2_26 : decode cJ16_compress_2 26 = .ok (.sipush 255, 3) := dk_17 0 255 (dk_at dksJ16_compress_2_1 2 rfl rfl)
theorem dJ16_compress_2_29 : decode cJ16_compress_2 29 = .ok (.if_icmp .le 6, 3) := dk_164 0 6 (dk_at dksJ16_compress_2_1 5 rfl rfl)
theorem dJ16_compress_2_32 : decode cJ16_compress_2 32 = .ok (.iload 5, 2) := dk_21 5 (dk_at dksJ16_compress_2_1 8 rfl rfl)
theorem dJ16_compress_2_34 : decode cJ16_compress_2 34 = .ok (.ireturn, 1) := dk_172 (dk_at dksJ16_compress_2_1 10 rfl rfl)
theorem dJ16_compress_2_35 : decode cJ16_compress_2 35 = .ok (.aload_n 2, 1) := dk_44 (dk_at dksJ16_compress_2_1 11 rfl rfl)
theorem dJ16_compress_2_36 : decode cJ16_compress_2 36 = .ok (.iload_n 3, 1) := dk_29 (dk_at dksJ16_compress_2_1 12 rfl rfl)
theorem dJ16_compress_2_37 : decode cJ16_compress_2 37 = .ok (.iload 6, 2) := dk_21 6 (dk_at dksJ16_compress_2_1 13 rfl rfl)
theorem dJ16_compress_2_39 : decode cJ16_compress_2 39 = .ok (.i2b, 1) := dk_145 (dk_at dksJ16_compress_2_1 15 rfl rfl)
theorem dJ16_compress_2_40 : decode cJ16_compress_2 40 = .ok (.bastore, 1) := dk_84 (dk_at dksJ16_compress_2_1 16 rfl rfl)
theorem dJ16_compress_2_41 : decode cJ16_compress_2 41 = .ok (.iinc 1 1, 3) := dk_132 1 1 (dk_at dksJ16_compress_2_1 17 rfl rfl)
theorem dJ16_compress_2_44 : decode cJ16_compress_2 44 = .ok (.iinc 3 1, 3) := dk_132 3 1 (dk_at dksJ16_compress_2_1 20 rfl rfl)
theorem dJ16_compress_2_47 : decode cJ16_compress_2 47 = .ok (.iinc 5 1, 3) := dk_132 5 1 (dk_at dksJ16_compress_2_2 0 rfl rfl)
theorem dJ16_compress_2_50 : decode cJ16_compress_2 50 = .ok (.goto (-40), 3) := dk_167 255 216 (dk_at dksJ16_compress_2_2 3 rfl rfl)
theorem dJ16_compress_2_53 : decode cJ16_compress_2 53 = .ok (.iload 4, 2) := dk_21 4 (dk_at dksJ16_compress_2_2 6 rfl rfl)
theorem dJ16_compress_2_55 : decode cJ16_compress_2 55 = .ok (.ireturn, 1) := dk_172 (dk_at dksJ16_compress_2_2 8 rfl rfl)
abbrev cJ16_getChar : ByteArray := prog_38_method_5_code
def yJ16_getChar : MethodName := ⟨RJ16, "getChar", "([BI)C"⟩
def dkwJ16_getChar_2 : List UInt8 := [51, 17, 0, 255, 126, 178, 0, 63, 120, 128, 146, 172]
abbrev dktJ16_getChar_2 : List UInt8 := dkwJ16_getChar_2 ++ []
def dkwJ16_getChar_1 : List UInt8 := [183, 0, 56, 191, 27, 4, 120, 60, 42, 27, 132, 1, 1, 51, 17, 0, 255, 126, 178, 0, 59, 120, 42, 27]
abbrev dktJ16_getChar_1 : List UInt8 := dkwJ16_getChar_1 ++ dktJ16_getChar_2
def dkwJ16_getChar_0 : List UInt8 := [178, 0, 44, 154, 0, 25, 27, 155, 0, 11, 27, 42, 184, 0, 48, 161, 0, 13, 187, 0, 52, 89, 18, 54]
abbrev dktJ16_getChar_0 : List UInt8 := dkwJ16_getChar_0 ++ dktJ16_getChar_1
theorem dksJ16_getChar_0 : cJ16_getChar.data.toList.drop 0 = dktJ16_getChar_0 := by decide +kernel
theorem dksJ16_getChar_1 : cJ16_getChar.data.toList.drop 24 = dktJ16_getChar_1 := dk_seg dksJ16_getChar_0 24 rfl rfl
theorem dksJ16_getChar_2 : cJ16_getChar.data.toList.drop 48 = dktJ16_getChar_2 := dk_seg dksJ16_getChar_1 24 rfl rfl
theorem dJ16_getChar_0 : decode cJ16_getChar 0 = .ok (.getstatic 44, 3) := dk_178 0 44 (dk_at dksJ16_getChar_0 0 rfl rfl)
theorem dJ16_getChar_3 : decode cJ16_getChar 3 = .ok (.ifCond .ne 25, 3) := dk_154 0 25 (dk_at dksJ16_getChar_0 3 rfl rfl)
theorem dJ16_getChar_6 : decode cJ16_getChar 6 = .ok (.iload_n 1, 1) := dk_27 (dk_at dksJ16_getChar_0 6 rfl rfl)
theorem dJ16_getChar_7 : decode cJ16_getChar 7 = .ok (.ifCond .lt 11, 3) := dk_155 0 11 (dk_at dksJ16_getChar_0 7 rfl rfl)
theorem dJ16_getChar_10 : decode cJ16_getChar 10 = .ok (.iload_n 1, 1) := dk_27 (dk_at dksJ16_getChar_0 10 rfl rfl)
theorem dJ16_getChar_11 : decode cJ16_getChar 11 = .ok (.aload_n 0, 1) := dk_42 (dk_at dksJ16_getChar_0 11 rfl rfl)
theorem dJ16_getChar_12 : decode cJ16_getChar 12 = .ok (.invokestatic 48, 3) := dk_184 0 48 (dk_at dksJ16_getChar_0 12 rfl rfl)
theorem dJ16_getChar_15 : decode cJ16_getChar 15 = .ok (.if_icmp .lt 13, 3) := dk_161 0 13 (dk_at dksJ16_getChar_0 15 rfl rfl)
theorem dJ16_getChar_18 : decode cJ16_getChar 18 = .ok (.new 52, 3) := dk_187 0 52 (dk_at dksJ16_getChar_0 18 rfl rfl)
theorem dJ16_getChar_21 : decode cJ16_getChar 21 = .ok (.dup, 1) := dk_89 (dk_at dksJ16_getChar_0 21 rfl rfl)
theorem dJ16_getChar_22 : decode cJ16_getChar 22 = .ok (.ldc 54, 2) := dk_18 54 (dk_at dksJ16_getChar_0 22 rfl rfl)
theorem dJ16_getChar_24 : decode cJ16_getChar 24 = .ok (.invokespecial 56, 3) := dk_183 0 56 (dk_at dksJ16_getChar_1 0 rfl rfl)
theorem dJ16_getChar_27 : decode cJ16_getChar 27 = .ok (.athrow, 1) := dk_191 (dk_at dksJ16_getChar_1 3 rfl rfl)
theorem dJ16_getChar_28 : decode cJ16_getChar 28 = .ok (.iload_n 1, 1) := dk_27 (dk_at dksJ16_getChar_1 4 rfl rfl)
theorem dJ16_getChar_29 : decode cJ16_getChar 29 = .ok (.iconst 1, 1) := dk_4 (dk_at dksJ16_getChar_1 5 rfl rfl)
theorem dJ16_getChar_30 : decode cJ16_getChar 30 = .ok (.ishl, 1) := dk_120 (dk_at dksJ16_getChar_1 6 rfl rfl)
theorem dJ16_getChar_31 : decode cJ16_getChar 31 = .ok (.istore_n 1, 1) := dk_60 (dk_at dksJ16_getChar_1 7 rfl rfl)
theorem dJ16_getChar_32 : decode cJ16_getChar 32 = .ok (.aload_n 0, 1) := dk_42 (dk_at dksJ16_getChar_1 8 rfl rfl)
theorem dJ16_getChar_33 : decode cJ16_getChar 33 = .ok (.iload_n 1, 1) := dk_27 (dk_at dksJ16_getChar_1 9 rfl rfl)
theorem dJ16_getChar_34 : decode cJ16_getChar 34 = .ok (.iinc 1 1, 3) := dk_132 1 1 (dk_at dksJ16_getChar_1 10 rfl rfl)
theorem dJ16_getChar_37 : decode cJ16_getChar 37 = .ok (.baload, 1) := dk_51 (dk_at dksJ16_getChar_1 13 rfl rfl)
theorem dJ16_getChar_38 : decode cJ16_getChar 38 = .ok (.sipush 255, 3) := dk_17 0 255 (dk_at dksJ16_getChar_1 14 rfl rfl)
theorem dJ16_getChar_41 : decode cJ16_getChar 41 = .ok (.iand, 1) := dk_126 (dk_at dksJ16_getChar_1 17 rfl rfl)
theorem dJ16_getChar_42 : decode cJ16_getChar 42 = .ok (.getstatic 59, 3) := dk_178 0 59 (dk_at dksJ16_getChar_1 18 rfl rfl)
theorem dJ16_getChar_45 : decode cJ16_getChar 45 = .ok (.ishl, 1) := dk_120 (dk_at dksJ16_getChar_1 21 rfl rfl)
theorem dJ16_getChar_46 : decode cJ16_getChar 46 = .ok (.aload_n 0, 1) := dk_42 (dk_at dksJ16_getChar_1 22 rfl rfl)
theorem dJ16_getChar_47 : decode cJ16_getChar 47 = .ok (.iload_n 1, 1) := dk_27 (dk_at dksJ16_getChar_1 23 rfl rfl)
theorem dJ16_getChar_48 : decode cJ16_getChar 48 = .ok (.baload, 1) := dk_51 (dk_at dksJ16_getChar_2 0 rfl rfl)
theorem dJ16_getChar_49 : decode cJ16_getChar 49 = .ok (.sipush 255, 3) := dk_17 0 255 (dk_at dksJ16_getChar_2 1 rfl rfl)
theorem dJ16_getChar_52 : decode cJ16_getChar 52 = .ok (.iand, 1) := dk_126 (dk_at dksJ16_getChar_2 4 rfl rfl)
theorem dJ16_getChar_53 : decode cJ16_getChar 53 = .ok (.getstatic 63, 3) := dk_178 0 63 (dk_at dksJ16_getChar_2 5 rfl rfl)
theorem dJ16_getChar_56 : decode cJ16_getChar 56 = .ok (.ishl, 1) := dk_120 (dk_at dksJ16_getChar_2 8 rfl rfl)
theorem dJ16_getChar_57 : decode cJ16_getChar 57 = .ok (.ior, 1) := dk_128 (dk_at dksJ16_getChar_2 9 rfl rfl)
theorem dJ16_getChar_58 : decode cJ16_getChar 58 = .ok (.i2c, 1) := dk_146 (dk_at dksJ16_getChar_2 10 rfl rfl)
theorem dJ16_getChar_59 : decode cJ16_getChar 59 = .ok (.ireturn, 1) := dk_172 (dk_at dksJ16_getChar_2 11 rfl rfl)
abbrev cJ16_coderFromArrayLen : ByteArray := prog_38_method_15_code
def yJ16_coderFromArrayLen : MethodName := ⟨RJ16, "coderFromArrayLen", "([BI)B"⟩
def dkwJ16_coderFromArrayLen_0 : List UInt8 := [27, 42, 190, 100, 16, 31, 124, 145, 172]
abbrev dktJ16_coderFromArrayLen_0 : List UInt8 := dkwJ16_coderFromArrayLen_0 ++ []
theorem dksJ16_coderFromArrayLen_0 : cJ16_coderFromArrayLen.data.toList.drop 0 = dktJ16_coderFromArrayLen_0 := by decide +kernel
theorem dJ16_coderFromArrayLen_0 : decode cJ16_coderFromArrayLen 0 = .ok (.iload_n 1, 1) := dk_27 (dk_at dksJ16_coderFromArrayLen_0 0 rfl rfl)
theorem dJ16_coderFromArrayLen_1 : decode cJ16_coderFromArrayLen 1 = .ok (.aload_n 0, 1) := dk_42 (dk_at dksJ16_coderFromArrayLen_0 1 rfl rfl)
theorem dJ16_coderFromArrayLen_2 : decode cJ16_coderFromArrayLen 2 = .ok (.arraylength, 1) := dk_190 (dk_at dksJ16_coderFromArrayLen_0 2 rfl rfl)
theorem dJ16_coderFromArrayLen_3 : decode cJ16_coderFromArrayLen 3 = .ok (.isub, 1) := dk_100 (dk_at dksJ16_coderFromArrayLen_0 3 rfl rfl)
theorem dJ16_coderFromArrayLen_4 : decode cJ16_coderFromArrayLen 4 = .ok (.bipush 31, 2) := dk_16 31 (dk_at dksJ16_coderFromArrayLen_0 4 rfl rfl)
theorem dJ16_coderFromArrayLen_6 : decode cJ16_coderFromArrayLen 6 = .ok (.iushr, 1) := dk_124 (dk_at dksJ16_coderFromArrayLen_0 6 rfl rfl)
theorem dJ16_coderFromArrayLen_7 : decode cJ16_coderFromArrayLen 7 = .ok (.i2b, 1) := dk_145 (dk_at dksJ16_coderFromArrayLen_0 7 rfl rfl)
theorem dJ16_coderFromArrayLen_8 : decode cJ16_coderFromArrayLen 8 = .ok (.ireturn, 1) := dk_172 (dk_at dksJ16_coderFromArrayLen_0 8 rfl rfl)
theorem q110 : (Jvm.Cond.initialized "java/lang/StringUTF16") ∈ lw_all := lw_g (lw_at lw_m1 26 rfl) rfl
theorem q681 : (Jvm.Cond.static ({ cls := "java/lang/StringUTF16", name := "newBytesFor", desc := "(I)[B" } : Jvm.MethodName)) ∈ lw_all := lw_g (lw_at lw_m3 117 rfl) rfl
theorem q682 : (Jvm.Cond.code ({ cls := "java/lang/StringUTF16", name := "newBytesFor", desc := "(I)[B" } : Jvm.MethodName) prog_38_method_2_code (1 : Nat) (Option.some (Jvm.ClassFile.FieldType.array Jvm.ClassFile.FieldType.byte))) ∈ lw_all := lw_g (lw_at lw_m3 118 rfl) rfl
theorem q683 : (Jvm.Cond.methodLink "java/lang/StringUTF16" (11 : Nat) ({ cls := "java/lang/StringUTF16", name := "newBytesLength", desc := "(I)I" } : Jvm.MethodName)) ∈ lw_all := lw_g (lw_at lw_m3 119 rfl) rfl
theorem q684 : (Jvm.Cond.static ({ cls := "java/lang/StringUTF16", name := "newBytesLength", desc := "(I)I" } : Jvm.MethodName)) ∈ lw_all := lw_g (lw_at lw_m3 120 rfl) rfl
theorem q685 : (Jvm.Cond.code ({ cls := "java/lang/StringUTF16", name := "newBytesLength", desc := "(I)I" } : Jvm.MethodName) prog_38_method_3_code (1 : Nat) (Option.some Jvm.ClassFile.FieldType.int)) ∈ lw_all := lw_g (lw_at lw_m3 121 rfl) rfl
theorem q686 : (Jvm.Cond.constant "java/lang/StringUTF16" (20 : Nat) (1073741823 : Int32)) ∈ lw_all := lw_g (lw_at lw_m3 122 rfl) rfl
theorem q749 : (Jvm.Cond.static ({ cls := "java/lang/StringUTF16", name := "putCharsAt", desc := "([BICCCC)I" } : Jvm.MethodName)) ∈ lw_all := lw_g (lw_at lw_m3 185 rfl) rfl
theorem q750 : (Jvm.Cond.code ({ cls := "java/lang/StringUTF16", name := "putCharsAt", desc := "([BICCCC)I" } : Jvm.MethodName) prog_38_method_81_code (7 : Nat) (Option.some Jvm.ClassFile.FieldType.int)) ∈ lw_all := lw_g (lw_at lw_m3 186 rfl) rfl
theorem q751 : (Jvm.Cond.methodLink "java/lang/StringUTF16" (96 : Nat) ({ cls := "java/lang/StringUTF16", name := "checkBoundsBeginEnd", desc := "(II[B)V" } : Jvm.MethodName)) ∈ lw_all := lw_g (lw_at lw_m3 187 rfl) rfl
theorem q752 : (Jvm.Cond.static ({ cls := "java/lang/StringUTF16", name := "checkBoundsBeginEnd", desc := "(II[B)V" } : Jvm.MethodName)) ∈ lw_all := lw_g (lw_at lw_m3 188 rfl) rfl
theorem q753 : (Jvm.Cond.code ({ cls := "java/lang/StringUTF16", name := "checkBoundsBeginEnd", desc := "(II[B)V" } : Jvm.MethodName) prog_38_method_93_code (3 : Nat) (Option.none : Option Jvm.ClassFile.FieldType)) ∈ lw_all := lw_g (lw_at lw_m3 189 rfl) rfl
theorem q754 : (Jvm.Cond.methodLink "java/lang/StringUTF16" (48 : Nat) ({ cls := "java/lang/StringUTF16", name := "length", desc := "([B)I" } : Jvm.MethodName)) ∈ lw_all := lw_g (lw_at lw_m3 190 rfl) rfl
theorem q755 : (Jvm.Cond.static ({ cls := "java/lang/StringUTF16", name := "length", desc := "([B)I" } : Jvm.MethodName)) ∈ lw_all := lw_g (lw_at lw_m3 191 rfl) rfl
theorem q756 : (Jvm.Cond.code ({ cls := "java/lang/StringUTF16", name := "length", desc := "([B)I" } : Jvm.MethodName) prog_38_method_6_code (1 : Nat) (Option.some Jvm.ClassFile.FieldType.int)) ∈ lw_all := lw_g (lw_at lw_m3 192 rfl) rfl
theorem q757 : (Jvm.Cond.methodLink "java/lang/StringUTF16" (241 : Nat) ({ cls := "java/lang/String", name := "checkBoundsBeginEnd", desc := "(III)V" } : Jvm.MethodName)) ∈ lw_all := lw_g (lw_at lw_m3 193 rfl) rfl
theorem q765 : (Jvm.Cond.methodLink "java/lang/StringUTF16" (111 : Nat) ({ cls := "java/lang/StringUTF16", name := "putChar", desc := "([BII)V" } : Jvm.MethodName)) ∈ lw_all := lw_g (lw_at lw_m3 201 rfl) rfl
theorem q766 : (Jvm.Cond.static ({ cls := "java/lang/StringUTF16", name := "putChar", desc := "([BII)V" } : Jvm.MethodName)) ∈ lw_all := lw_g (lw_at lw_m3 202 rfl) rfl
theorem q767 : (Jvm.Cond.code ({ cls := "java/lang/StringUTF16", name := "putChar", desc := "([BII)V" } : Jvm.MethodName) prog_38_method_4_code (3 : Nat) (Option.none : Option Jvm.ClassFile.FieldType)) ∈ lw_all := lw_g (lw_at lw_m3 203 rfl) rfl
theorem q768 : (Jvm.Cond.fieldLink "java/lang/StringUTF16" (44 : Nat) "java/lang/StringUTF16" "$assertionsDisabled" "Z") ∈ lw_all := lw_g (lw_at lw_m3 204 rfl) rfl
theorem q769 : (Jvm.Cond.laysStatic "java/lang/StringUTF16" "$assertionsDisabled" "Z") ∈ lw_tbl := lw_at lw_m3 205 rfl
theorem q770 : (Jvm.Cond.fieldLink "java/lang/StringUTF16" (59 : Nat) "java/lang/StringUTF16" "HI_BYTE_SHIFT" "I") ∈ lw_all := lw_g (lw_at lw_m3 206 rfl) rfl
theorem q771 : (Jvm.Cond.laysStatic "java/lang/StringUTF16" "HI_BYTE_SHIFT" "I") ∈ lw_tbl := lw_at lw_m3 207 rfl
theorem q772 : (Jvm.Cond.fieldLink "java/lang/StringUTF16" (63 : Nat) "java/lang/StringUTF16" "LO_BYTE_SHIFT" "I") ∈ lw_all := lw_g (lw_at lw_m3 208 rfl) rfl
theorem q773 : (Jvm.Cond.laysStatic "java/lang/StringUTF16" "LO_BYTE_SHIFT" "I") ∈ lw_tbl := lw_at lw_m3 209 rfl
theorem q800 : (Jvm.Cond.static ({ cls := "java/lang/StringUTF16", name := "inflate", desc := "([BI[BII)V" } : Jvm.MethodName)) ∈ lw_all := lw_g (lw_at lw_m3 236 rfl) rfl
theorem q801 : (Jvm.Cond.code ({ cls := "java/lang/StringUTF16", name := "inflate", desc := "([BI[BII)V" } : Jvm.MethodName) prog_38_method_86_code (6 : Nat) (Option.none : Option Jvm.ClassFile.FieldType)) ∈ lw_all := lw_g (lw_at lw_m3 237 rfl) rfl
theorem q802 : (Jvm.Cond.methodLink "java/lang/StringUTF16" (173 : Nat) ({ cls := "java/lang/StringUTF16", name := "checkBoundsOffCount", desc := "(II[B)V" } : Jvm.MethodName)) ∈ lw_all := lw_g (lw_at lw_m3 238 rfl) rfl
theorem q803 : (Jvm.Cond.static ({ cls := "java/lang/StringUTF16", name := "checkBoundsOffCount", desc := "(II[B)V" } : Jvm.MethodName)) ∈ lw_all := lw_g (lw_at lw_m3 239 rfl) rfl
theorem q804 : (Jvm.Cond.code ({ cls := "java/lang/StringUTF16", name := "checkBoundsOffCount", desc := "(II[B)V" } : Jvm.MethodName) prog_38_method_94_code (3 : Nat) (Option.none : Option Jvm.ClassFile.FieldType)) ∈ lw_all := lw_g (lw_at lw_m4 0 rfl) rfl
theorem q805 : (Jvm.Cond.methodLink "java/lang/StringUTF16" (419 : Nat) ({ cls := "java/lang/String", name := "checkBoundsOffCount", desc := "(III)I" } : Jvm.MethodName)) ∈ lw_all := lw_g (lw_at lw_m4 1 rfl) rfl
theorem q835 : (Jvm.Cond.static ({ cls := "java/lang/StringUTF16", name := "getChars", desc := "(III[B)I" } : Jvm.MethodName)) ∈ lw_all := lw_g (lw_at lw_m4 31 rfl) rfl
theorem q836 : (Jvm.Cond.code ({ cls := "java/lang/StringUTF16", name := "getChars", desc := "(III[B)I" } : Jvm.MethodName) prog_38_method_77_code (5 : Nat) (Option.some Jvm.ClassFile.FieldType.int)) ∈ lw_all := lw_g (lw_at lw_m4 32 rfl) rfl
theorem q837 : (Jvm.Cond.methodLink "java/lang/StringUTF16" (393 : Nat) ({ cls := "java/lang/StringUTF16", name := "getChars", desc := "(II[B)I" } : Jvm.MethodName)) ∈ lw_all := lw_g (lw_at lw_m4 33 rfl) rfl
theorem q838 : (Jvm.Cond.static ({ cls := "java/lang/StringUTF16", name := "getChars", desc := "(II[B)I" } : Jvm.MethodName)) ∈ lw_all := lw_g (lw_at lw_m4 34 rfl) rfl
theorem q839 : (Jvm.Cond.code ({ cls := "java/lang/StringUTF16", name := "getChars", desc := "(II[B)I" } : Jvm.MethodName) prog_38_method_89_code (7 : Nat) (Option.some Jvm.ClassFile.FieldType.int)) ∈ lw_all := lw_g (lw_at lw_m4 35 rfl) rfl
theorem q840 : (Jvm.Cond.fieldLink "java/lang/StringUTF16" (403 : Nat) "java/lang/Integer" "DigitOnes" "[B") ∈ lw_all := lw_g (lw_at lw_m4 36 rfl) rfl
theorem q841 : (Jvm.Cond.fieldLink "java/lang/StringUTF16" (407 : Nat) "java/lang/Integer" "DigitTens" "[B") ∈ lw_all := lw_g (lw_at lw_m4 37 rfl) rfl
theorem q887 : (Jvm.Cond.static ({ cls := "java/lang/StringUTF16", name := "compress", desc := "([BII)[B" } : Jvm.MethodName)) ∈ lw_all := lw_g (lw_at lw_m4 83 rfl) rfl
theorem q888 : (Jvm.Cond.code ({ cls := "java/lang/StringUTF16", name := "compress", desc := "([BII)[B" } : Jvm.MethodName) prog_38_method_17_code (6 : Nat) (Option.some (Jvm.ClassFile.FieldType.array Jvm.ClassFile.FieldType.byte))) ∈ lw_all := lw_g (lw_at lw_m4 84 rfl) rfl
theorem q889 : (Jvm.Cond.methodLink "java/lang/StringUTF16" (123 : Nat) ({ cls := "java/lang/StringUTF16", name := "compress", desc := "([BI[BII)I" } : Jvm.MethodName)) ∈ lw_all := lw_g (lw_at lw_m4 85 rfl) rfl
theorem q890 : (Jvm.Cond.static ({ cls := "java/lang/StringUTF16", name := "compress", desc := "([BI[BII)I" } : Jvm.MethodName)) ∈ lw_all := lw_g (lw_at lw_m4 86 rfl) rfl
theorem q891 : (Jvm.Cond.code ({ cls := "java/lang/StringUTF16", name := "compress", desc := "([BI[BII)I" } : Jvm.MethodName) prog_38_method_22_code (7 : Nat) (Option.some Jvm.ClassFile.FieldType.int)) ∈ lw_all := lw_g (lw_at lw_m4 87 rfl) rfl
theorem q892 : (Jvm.Cond.methodLink "java/lang/StringUTF16" (71 : Nat) ({ cls := "java/lang/StringUTF16", name := "getChar", desc := "([BI)C" } : Jvm.MethodName)) ∈ lw_all := lw_g (lw_at lw_m4 88 rfl) rfl
theorem q893 : (Jvm.Cond.static ({ cls := "java/lang/StringUTF16", name := "getChar", desc := "([BI)C" } : Jvm.MethodName)) ∈ lw_all := lw_g (lw_at lw_m4 89 rfl) rfl
theorem q894 : (Jvm.Cond.code ({ cls := "java/lang/StringUTF16", name := "getChar", desc := "([BI)C" } : Jvm.MethodName) prog_38_method_5_code (2 : Nat) (Option.some Jvm.ClassFile.FieldType.char)) ∈ lw_all := lw_g (lw_at lw_m4 90 rfl) rfl
theorem q895 : (Jvm.Cond.methodLink "java/lang/StringUTF16" (126 : Nat) ({ cls := "java/util/Arrays", name := "copyOfRange", desc := "([BII)[B" } : Jvm.MethodName)) ∈ lw_all := lw_g (lw_at lw_m4 91 rfl) rfl
theorem q897 : (Jvm.Cond.static ({ cls := "java/lang/StringUTF16", name := "coderFromArrayLen", desc := "([BI)B" } : Jvm.MethodName)) ∈ lw_all := lw_g (lw_at lw_m4 93 rfl) rfl
theorem q898 : (Jvm.Cond.code ({ cls := "java/lang/StringUTF16", name := "coderFromArrayLen", desc := "([BI)B" } : Jvm.MethodName) prog_38_method_15_code (2 : Nat) (Option.some Jvm.ClassFile.FieldType.byte)) ∈ lw_all := lw_g (lw_at lw_m4 94 rfl) rfl
/-! jdk/internal/util/ArraysSupport -/
set_option maxRecDepth 100000
def RJ17 : String := "jdk/internal/util/ArraysSupport"
abbrev cJ17_newLength : ByteArray := prog_50_method_27_code
def yJ17_newLength : MethodName := ⟨RJ17, "newLength", "(III)I"⟩
def dkwJ17_newLength_1 : List UInt8 := [184, 0, 201, 172]
abbrev dktJ17_newLength_1 : List UInt8 := dkwJ17_newLength_1 ++ []
def dkwJ17_newLength_0 : List UInt8 := [26, 27, 28, 184, 0, 194, 96, 62, 3, 29, 162, 0, 11, 29, 18, 200, 163, 0, 5, 29, 172, 26, 27]
abbrev dktJ17_newLength_0 : List UInt8 := dkwJ17_newLength_0 ++ dktJ17_newLength_1
theorem dksJ17_newLength_0 : cJ17_newLength.data.toList.drop 0 = dktJ17_newLength_0 := by decide +kernel
theorem dksJ17_newLength_1 : cJ17_newLength.data.toList.drop 23 = dktJ17_newLength_1 := dk_seg dksJ17_newLength_0 23 rfl rfl
theorem dJ17_newLength_0 : decode cJ17_newLength 0 = .ok (.iload_n 0, 1) := dk_26 (dk_at dksJ17_newLength_0 0 rfl rfl)
theorem dJ17_newLength_1 : decode cJ17_newLength 1 = .ok (.iload_n 1, 1) := dk_27 (dk_at dksJ17_newLength_0 1 rfl rfl)
theorem dJ17_newLength_2 : decode cJ17_newLength 2 = .ok (.iload_n 2, 1) := dk_28 (dk_at dksJ17_newLength_0 2 rfl rfl)
theorem dJ17_newLength_3 : decode cJ17_newLength 3 = .ok (.invokestatic 194, 3) := dk_184 0 194 (dk_at dksJ17_newLength_0 3 rfl rfl)
theorem dJ17_newLength_6 : decode cJ17_newLength 6 = .ok (.iadd, 1) := dk_96 (dk_at dksJ17_newLength_0 6 rfl rfl)
theorem dJ17_newLength_7 : decode cJ17_newLength 7 = .ok (.istore_n 3, 1) := dk_62 (dk_at dksJ17_newLength_0 7 rfl rfl)
theorem dJ17_newLength_8 : decode cJ17_newLength 8 = .ok (.iconst 0, 1) := dk_3 (dk_at dksJ17_newLength_0 8 rfl rfl)
theorem dJ17_newLength_9 : decode cJ17_newLength 9 = .ok (.iload_n 3, 1) := dk_29 (dk_at dksJ17_newLength_0 9 rfl rfl)
theorem dJ17_newLength_10 : decode cJ17_newLength 10 = .ok (.if_icmp .ge 11, 3) := dk_162 0 11 (dk_at dksJ17_newLength_0 10 rfl rfl)
theorem dJ17_newLength_13 : decode cJ17_newLength 13 = .ok (.iload_n 3, 1) := dk_29 (dk_at dksJ17_newLength_0 13 rfl rfl)
theorem dJ17_newLength_14 : decode cJ17_newLength 14 = .ok (.ldc 200, 2) := dk_18 200 (dk_at dksJ17_newLength_0 14 rfl rfl)
theorem dJ17_newLength_16 : decode cJ17_newLength 16 = .ok (.if_icmp .gt 5, 3) := dk_163 0 5 (dk_at dksJ17_newLength_0 16 rfl rfl)
theorem dJ17_newLength_19 : decode cJ17_newLength 19 = .ok (.iload_n 3, 1) := dk_29 (dk_at dksJ17_newLength_0 19 rfl rfl)
theorem dJ17_newLength_20 : decode cJ17_newLength 20 = .ok (.ireturn, 1) := dk_172 (dk_at dksJ17_newLength_0 20 rfl rfl)
theorem dJ17_newLength_21 : decode cJ17_newLength 21 = .ok (.iload_n 0, 1) := dk_26 (dk_at dksJ17_newLength_0 21 rfl rfl)
theorem dJ17_newLength_22 : decode cJ17_newLength 22 = .ok (.iload_n 1, 1) := dk_27 (dk_at dksJ17_newLength_0 22 rfl rfl)
theorem dJ17_newLength_23 : decode cJ17_newLength 23 = .ok (.invokestatic 201, 3) := dk_184 0 201 (dk_at dksJ17_newLength_1 0 rfl rfl)
theorem dJ17_newLength_26 : decode cJ17_newLength 26 = .ok (.ireturn, 1) := dk_172 (dk_at dksJ17_newLength_1 3 rfl rfl)
abbrev cJ17_hugeLength : ByteArray := prog_50_method_28_code
def yJ17_hugeLength : MethodName := ⟨RJ17, "hugeLength", "(II)I"⟩
def dkwJ17_hugeLength_2 : List UInt8 := [191, 28, 18, 200, 163, 0, 6, 18, 200, 172, 28, 172]
abbrev dktJ17_hugeLength_2 : List UInt8 := dkwJ17_hugeLength_2 ++ []
def dkwJ17_hugeLength_1 : List UInt8 := [26, 182, 0, 98, 18, 208, 182, 0, 94, 27, 182, 0, 98, 18, 210, 182, 0, 94, 182, 0, 101, 183, 0, 212]
abbrev dktJ17_hugeLength_1 : List UInt8 := dkwJ17_hugeLength_1 ++ dktJ17_hugeLength_2
def dkwJ17_hugeLength_0 : List UInt8 := [26, 27, 96, 61, 28, 156, 0, 44, 187, 0, 204, 89, 187, 0, 89, 89, 183, 0, 91, 18, 206, 182, 0, 94]
abbrev dktJ17_hugeLength_0 : List UInt8 := dkwJ17_hugeLength_0 ++ dktJ17_hugeLength_1
theorem dksJ17_hugeLength_0 : cJ17_hugeLength.data.toList.drop 0 = dktJ17_hugeLength_0 := by decide +kernel
theorem dksJ17_hugeLength_1 : cJ17_hugeLength.data.toList.drop 24 = dktJ17_hugeLength_1 := dk_seg dksJ17_hugeLength_0 24 rfl rfl
theorem dksJ17_hugeLength_2 : cJ17_hugeLength.data.toList.drop 48 = dktJ17_hugeLength_2 := dk_seg dksJ17_hugeLength_1 24 rfl rfl
theorem dJ17_hugeLength_0 : decode cJ17_hugeLength 0 = .ok (.iload_n 0, 1) := dk_26 (dk_at dksJ17_hugeLength_0 0 rfl rfl)
theorem dJ17_hugeLength_1 : decode cJ17_hugeLength 1 = .ok (.iload_n 1, 1) := dk_27 (dk_at dksJ17_hugeLength_0 1 rfl rfl)
theorem dJ17_hugeLength_2 : decode cJ17_hugeLength 2 = .ok (.iadd, 1) := dk_96 (dk_at dksJ17_hugeLength_0 2 rfl rfl)
theorem dJ17_hugeLength_3 : decode cJ17_hugeLength 3 = .ok (.istore_n 2, 1) := dk_61 (dk_at dksJ17_hugeLength_0 3 rfl rfl)
theorem dJ17_hugeLength_4 : decode cJ17_hugeLength 4 = .ok (.iload_n 2, 1) := dk_28 (dk_at dksJ17_hugeLength_0 4 rfl rfl)
theorem dJ17_hugeLength_5 : decode cJ17_hugeLength 5 = .ok (.ifCond .ge 44, 3) := dk_156 0 44 (dk_at dksJ17_hugeLength_0 5 rfl rfl)
theorem dJ17_hugeLength_8 : decode cJ17_hugeLength 8 = .ok (.new 204, 3) := dk_187 0 204 (dk_at dksJ17_hugeLength_0 8 rfl rfl)
theorem dJ17_hugeLength_11 : decode cJ17_hugeLength 11 = .ok (.dup, 1) := dk_89 (dk_at dksJ17_hugeLength_0 11 rfl rfl)
theorem dJ17_hugeLength_12 : decode cJ17_hugeLength 12 = .ok (.new 89, 3) := dk_187 0 89 (dk_at dksJ17_hugeLength_0 12 rfl rfl)
theorem dJ17_hugeLength_15 : decode cJ17_hugeLength 15 = .ok (.dup, 1) := dk_89 (dk_at dksJ17_hugeLength_0 15 rfl rfl)
theorem dJ17_hugeLength_16 : decode cJ17_hugeLength 16 = .ok (.invokespecial 91, 3) := dk_183 0 91 (dk_at dksJ17_hugeLength_0 16 rfl rfl)
theorem dJ17_hugeLength_19 : decode cJ17_hugeLength 19 = .ok (.ldc 206, 2) := dk_18 206 (dk_at dksJ17_hugeLength_0 19 rfl rfl)
theorem dJ17_hugeLength_21 : decode cJ17_hugeLength 21 = .ok (.invokevirtual 94, 3) := dk_182 0 94 (dk_at dksJ17_hugeLength_0 21 rfl rfl)
theorem dJ17_hugeLength_24 : decode cJ17_hugeLength 24 = .ok (.iload_n 0, 1) := dk_26 (dk_at dksJ17_hugeLength_1 0 rfl rfl)
theorem dJ17_hugeLength_25 : decode cJ17_hugeLength 25 = .ok (.invokevirtual 98, 3) := dk_182 0 98 (dk_at dksJ17_hugeLength_1 1 rfl rfl)
theorem dJ17_hugeLength_28 : decode cJ17_hugeLength 28 = .ok (.ldc 208, 2) := dk_18 208 (dk_at dksJ17_hugeLength_1 4 rfl rfl)
theorem dJ17_hugeLength_30 : decode cJ17_hugeLength 30 = .ok (.invokevirtual 94, 3) := dk_182 0 94 (dk_at dksJ17_hugeLength_1 6 rfl rfl)
theorem dJ17_hugeLength_33 : decode cJ17_hugeLength 33 = .ok (.iload_n 1, 1) := dk_27 (dk_at dksJ17_hugeLength_1 9 rfl rfl)
theorem dJ17_hugeLength_34 : decode cJ17_hugeLength 34 = .ok (.invokevirtual 98, 3) := dk_182 0 98 (dk_at dksJ17_hugeLength_1 10 rfl rfl)
theorem dJ17_hugeLength_37 : decode cJ17_hugeLength 37 = .ok (.ldc 210, 2) := dk_18 210 (dk_at dksJ17_hugeLength_1 13 rfl rfl)
theorem dJ17_hugeLength_39 : decode cJ17_hugeLength 39 = .ok (.invokevirtual 94, 3) := dk_182 0 94 (dk_at dksJ17_hugeLength_1 15 rfl rfl)
theorem dJ17_hugeLength_42 : decode cJ17_hugeLength 42 = .ok (.invokevirtual 101, 3) := dk_182 0 101 (dk_at dksJ17_hugeLength_1 18 rfl rfl)
theorem dJ17_hugeLength_45 : decode cJ17_hugeLength 45 = .ok (.invokespecial 212, 3) := dk_183 0 212 (dk_at dksJ17_hugeLength_1 21 rfl rfl)
theorem dJ17_hugeLength_48 : decode cJ17_hugeLength 48 = .ok (.athrow, 1) := dk_191 (dk_at dksJ17_hugeLength_2 0 rfl rfl)
theorem dJ17_hugeLength_49 : decode cJ17_hugeLength 49 = .ok (.iload_n 2, 1) := dk_28 (dk_at dksJ17_hugeLength_2 1 rfl rfl)
theorem dJ17_hugeLength_50 : decode cJ17_hugeLength 50 = .ok (.ldc 200, 2) := dk_18 200 (dk_at dksJ17_hugeLength_2 2 rfl rfl)
theorem dJ17_hugeLength_52 : decode cJ17_hugeLength 52 = .ok (.if_icmp .gt 6, 3) := dk_163 0 6 (dk_at dksJ17_hugeLength_2 4 rfl rfl)
theorem dJ17_hugeLength_55 : decode cJ17_hugeLength 55 = .ok (.ldc 200, 2) := dk_18 200 (dk_at dksJ17_hugeLength_2 7 rfl rfl)
theorem dJ17_hugeLength_57 : decode cJ17_hugeLength 57 = .ok (.ireturn, 1) := dk_172 (dk_at dksJ17_hugeLength_2 9 rfl rfl)
theorem dJ17_hugeLength_58 : decode cJ17_hugeLength 58 = .ok (.iload_n 2, 1) := dk_28 (dk_at dksJ17_hugeLength_2 10 rfl rfl)
theorem dJ17_hugeLength_59 : decode cJ17_hugeLength 59 = .ok (.ireturn, 1) := dk_172 (dk_at dksJ17_hugeLength_2 11 rfl rfl)
theorem q111 : (Jvm.Cond.initialized "jdk/internal/util/ArraysSupport") ∈ lw_all := lw_g (lw_at lw_m1 27 rfl) rfl
theorem q721 : (Jvm.Cond.static ({ cls := "jdk/internal/util/ArraysSupport", name := "newLength", desc := "(III)I" } : Jvm.MethodName)) ∈ lw_all := lw_g (lw_at lw_m3 157 rfl) rfl
theorem q722 : (Jvm.Cond.code ({ cls := "jdk/internal/util/ArraysSupport", name := "newLength", desc := "(III)I" } : Jvm.MethodName) prog_50_method_27_code (4 : Nat) (Option.some Jvm.ClassFile.FieldType.int)) ∈ lw_all := lw_g (lw_at lw_m3 158 rfl) rfl
theorem q723 : (Jvm.Cond.methodLink "jdk/internal/util/ArraysSupport" (194 : Nat) ({ cls := "java/lang/Math", name := "max", desc := "(II)I" } : Jvm.MethodName)) ∈ lw_all := lw_g (lw_at lw_m3 159 rfl) rfl
theorem q724 : (Jvm.Cond.constant "jdk/internal/util/ArraysSupport" (200 : Nat) (2147483639 : Int32)) ∈ lw_all := lw_g (lw_at lw_m3 160 rfl) rfl
theorem q725 : (Jvm.Cond.methodLink "jdk/internal/util/ArraysSupport" (201 : Nat) ({ cls := "jdk/internal/util/ArraysSupport", name := "hugeLength", desc := "(II)I" } : Jvm.MethodName)) ∈ lw_all := lw_g (lw_at lw_m3 161 rfl) rfl
theorem q726 : (Jvm.Cond.static ({ cls := "jdk/internal/util/ArraysSupport", name := "hugeLength", desc := "(II)I" } : Jvm.MethodName)) ∈ lw_all := lw_g (lw_at lw_m3 162 rfl) rfl
theorem q727 : (Jvm.Cond.code ({ cls := "jdk/internal/util/ArraysSupport", name := "hugeLength", desc := "(II)I" } : Jvm.MethodName) prog_50_method_28_code (3 : Nat) (Option.some Jvm.ClassFile.FieldType.int)) ∈ lw_all := lw_g (lw_at lw_m3 163 rfl) rfl
/-! java/util/Arrays -/
set_option maxRecDepth 100000
def RJ18 : String := "java/util/Arrays"
abbrev cJ18_copyOf : ByteArray := prog_44_method_121_code
def yJ18_copyOf : MethodName := ⟨RJ18, "copyOf", "([BI)[B"⟩
def dkwJ18_copyOf_1 : List UInt8 := [27, 184, 1, 48, 184, 0, 150, 44, 176]
abbrev dktJ18_copyOf_1 : List UInt8 := dkwJ18_copyOf_1 ++ []
def dkwJ18_copyOf_0 : List UInt8 := [27, 42, 190, 160, 0, 11, 42, 182, 1, 54, 192, 1, 55, 176, 27, 188, 8, 77, 42, 3, 44, 3, 42, 190]
abbrev dktJ18_copyOf_0 : List UInt8 := dkwJ18_copyOf_0 ++ dktJ18_copyOf_1
theorem dksJ18_copyOf_0 : cJ18_copyOf.data.toList.drop 0 = dktJ18_copyOf_0 := by decide +kernel
theorem dksJ18_copyOf_1 : cJ18_copyOf.data.toList.drop 24 = dktJ18_copyOf_1 := dk_seg dksJ18_copyOf_0 24 rfl rfl
theorem dJ18_copyOf_0 : decode cJ18_copyOf 0 = .ok (.iload_n 1, 1) := dk_27 (dk_at dksJ18_copyOf_0 0 rfl rfl)
theorem dJ18_copyOf_1 : decode cJ18_copyOf 1 = .ok (.aload_n 0, 1) := dk_42 (dk_at dksJ18_copyOf_0 1 rfl rfl)
theorem dJ18_copyOf_2 : decode cJ18_copyOf 2 = .ok (.arraylength, 1) := dk_190 (dk_at dksJ18_copyOf_0 2 rfl rfl)
theorem dJ18_copyOf_3 : decode cJ18_copyOf 3 = .ok (.if_icmp .ne 11, 3) := dk_160 0 11 (dk_at dksJ18_copyOf_0 3 rfl rfl)
theorem dJ18_copyOf_6 : decode cJ18_copyOf 6 = .ok (.aload_n 0, 1) := dk_42 (dk_at dksJ18_copyOf_0 6 rfl rfl)
theorem dJ18_copyOf_7 : decode cJ18_copyOf 7 = .ok (.invokevirtual 310, 3) := dk_182 1 54 (dk_at dksJ18_copyOf_0 7 rfl rfl)
theorem dJ18_copyOf_10 : decode cJ18_copyOf 10 = .ok (.checkcast 311, 3) := dk_192 1 55 (dk_at dksJ18_copyOf_0 10 rfl rfl)
theorem dJ18_copyOf_13 : decode cJ18_copyOf 13 = .ok (.areturn, 1) := dk_176 (dk_at dksJ18_copyOf_0 13 rfl rfl)
theorem dJ18_copyOf_14 : decode cJ18_copyOf 14 = .ok (.iload_n 1, 1) := dk_27 (dk_at dksJ18_copyOf_0 14 rfl rfl)
theorem dJ18_copyOf_15 : decode cJ18_copyOf 15 = .ok (.newarray .byte, 2) := dk_188_8 (dk_at dksJ18_copyOf_0 15 rfl rfl)
theorem dJ18_copyOf_17 : decode cJ18_copyOf 17 = .ok (.astore_n 2, 1) := dk_77 (dk_at dksJ18_copyOf_0 17 rfl rfl)
theorem dJ18_copyOf_18 : decode cJ18_copyOf 18 = .ok (.aload_n 0, 1) := dk_42 (dk_at dksJ18_copyOf_0 18 rfl rfl)
theorem dJ18_copyOf_19 : decode cJ18_copyOf 19 = .ok (.iconst 0, 1) := dk_3 (dk_at dksJ18_copyOf_0 19 rfl rfl)
theorem dJ18_copyOf_20 : decode cJ18_copyOf 20 = .ok (.aload_n 2, 1) := dk_44 (dk_at dksJ18_copyOf_0 20 rfl rfl)
theorem dJ18_copyOf_21 : decode cJ18_copyOf 21 = .ok (.iconst 0, 1) := dk_3 (dk_at dksJ18_copyOf_0 21 rfl rfl)
theorem dJ18_copyOf_22 : decode cJ18_copyOf 22 = .ok (.aload_n 0, 1) := dk_42 (dk_at dksJ18_copyOf_0 22 rfl rfl)
theorem dJ18_copyOf_23 : decode cJ18_copyOf 23 = .ok (.arraylength, 1) := dk_190 (dk_at dksJ18_copyOf_0 23 rfl rfl)
theorem dJ18_copyOf_24 : decode cJ18_copyOf 24 = .ok (.iload_n 1, 1) := dk_27 (dk_at dksJ18_copyOf_1 0 rfl rfl)
theorem dJ18_copyOf_25 : decode cJ18_copyOf 25 = .ok (.invokestatic 304, 3) := dk_184 1 48 (dk_at dksJ18_copyOf_1 1 rfl rfl)
theorem dJ18_copyOf_28 : decode cJ18_copyOf 28 = .ok (.invokestatic 150, 3) := dk_184 0 150 (dk_at dksJ18_copyOf_1 4 rfl rfl)
theorem dJ18_copyOf_31 : decode cJ18_copyOf 31 = .ok (.aload_n 2, 1) := dk_44 (dk_at dksJ18_copyOf_1 7 rfl rfl)
theorem dJ18_copyOf_32 : decode cJ18_copyOf 32 = .ok (.areturn, 1) := dk_176 (dk_at dksJ18_copyOf_1 8 rfl rfl)
abbrev cJ18_copyOfRange : ByteArray := prog_44_method_132_code
def yJ18_copyOfRange : MethodName := ⟨RJ18, "copyOfRange", "([BII)[B"⟩
def dkwJ18_copyOfRange_1 : List UInt8 := [176]
abbrev dktJ18_copyOfRange_1 : List UInt8 := dkwJ18_copyOfRange_1 ++ []
def dkwJ18_copyOfRange_0 : List UInt8 := [27, 154, 0, 9, 28, 42, 190, 159, 0, 10, 42, 27, 28, 184, 1, 83, 176, 42, 182, 1, 54, 192, 1, 55]
abbrev dktJ18_copyOfRange_0 : List UInt8 := dkwJ18_copyOfRange_0 ++ dktJ18_copyOfRange_1
theorem dksJ18_copyOfRange_0 : cJ18_copyOfRange.data.toList.drop 0 = dktJ18_copyOfRange_0 := by decide +kernel
theorem dksJ18_copyOfRange_1 : cJ18_copyOfRange.data.toList.drop 24 = dktJ18_copyOfRange_1 := dk_seg dksJ18_copyOfRange_0 24 rfl rfl
theorem dJ18_copyOfRange_0 : decode cJ18_copyOfRange 0 = .ok (.iload_n 1, 1) := dk_27 (dk_at dksJ18_copyOfRange_0 0 rfl rfl)
theorem dJ18_copyOfRange_1 : decode cJ18_copyOfRange 1 = .ok (.ifCond .ne 9, 3) := dk_154 0 9 (dk_at dksJ18_copyOfRange_0 1 rfl rfl)
theorem dJ18_copyOfRange_4 : decode cJ18_copyOfRange 4 = .ok (.iload_n 2, 1) := dk_28 (dk_at dksJ18_copyOfRange_0 4 rfl rfl)
theorem dJ18_copyOfRange_5 : decode cJ18_copyOfRange 5 = .ok (.aload_n 0, 1) := dk_42 (dk_at dksJ18_copyOfRange_0 5 rfl rfl)
theorem dJ18_copyOfRange_6 : decode cJ18_copyOfRange 6 = .ok (.arraylength, 1) := dk_190 (dk_at dksJ18_copyOfRange_0 6 rfl rfl)
theorem dJ18_copyOfRange_7 : decode cJ18_copyOfRange 7 = .ok (.if_icmp .eq 10, 3) := dk_159 0 10 (dk_at dksJ18_copyOfRange_0 7 rfl rfl)
theorem dJ18_copyOfRange_10 : decode cJ18_copyOfRange 10 = .ok (.aload_n 0, 1) := dk_42 (dk_at dksJ18_copyOfRange_0 10 rfl rfl)
theorem dJ18_copyOfRange_11 : decode cJ18_copyOfRange 11 = .ok (.iload_n 1, 1) := dk_27 (dk_at dksJ18_copyOfRange_0 11 rfl rfl)
theorem dJ18_copyOfRange_12 : decode cJ18_copyOfRange 12 = .ok (.iload_n 2, 1) := dk_28 (dk_at dksJ18_copyOfRange_0 12 rfl rfl)
theorem dJ18_copyOfRange_13 : decode cJ18_copyOfRange 13 = .ok (.invokestatic 339, 3) := dk_184 1 83 (dk_at dksJ18_copyOfRange_0 13 rfl rfl)
theorem dJ18_copyOfRange_16 : decode cJ18_copyOfRange 16 = .ok (.areturn, 1) := dk_176 (dk_at dksJ18_copyOfRange_0 16 rfl rfl)
theorem dJ18_copyOfRange_17 : decode cJ18_copyOfRange 17 = .ok (.aload_n 0, 1) := dk_42 (dk_at dksJ18_copyOfRange_0 17 rfl rfl)
theorem dJ18_copyOfRange_18 : decode cJ18_copyOfRange 18 = .ok (.invokevirtual 310, 3) := dk_182 1 54 (dk_at dksJ18_copyOfRange_0 18 rfl rfl)
theorem dJ18_copyOfRange_21 : decode cJ18_copyOfRange 21 = .ok (.checkcast 311, 3) := dk_192 1 55 (dk_at dksJ18_copyOfRange_0 21 rfl rfl)
theorem dJ18_copyOfRange_24 : decode cJ18_copyOfRange 24 = .ok (.areturn, 1) := dk_176 (dk_at dksJ18_copyOfRange_1 0 rfl rfl)
abbrev cJ18_copyOfRangeByte : ByteArray := prog_44_method_133_code
def yJ18_copyOfRangeByte : MethodName := ⟨RJ18, "copyOfRangeByte", "([BII)[B"⟩
def dkwJ18_copyOfRangeByte_1 : List UInt8 := [184, 1, 48, 184, 0, 150, 25, 4, 176]
abbrev dktJ18_copyOfRangeByte_1 : List UInt8 := dkwJ18_copyOfRangeByte_1 ++ []
def dkwJ18_copyOfRangeByte_0 : List UInt8 := [27, 28, 184, 1, 87, 28, 27, 100, 62, 29, 188, 8, 58, 4, 42, 27, 25, 4, 3, 42, 190, 27, 100, 29]
abbrev dktJ18_copyOfRangeByte_0 : List UInt8 := dkwJ18_copyOfRangeByte_0 ++ dktJ18_copyOfRangeByte_1
theorem dksJ18_copyOfRangeByte_0 : cJ18_copyOfRangeByte.data.toList.drop 0 = dktJ18_copyOfRangeByte_0 := by decide +kernel
theorem dksJ18_copyOfRangeByte_1 : cJ18_copyOfRangeByte.data.toList.drop 24 = dktJ18_copyOfRangeByte_1 := dk_seg dksJ18_copyOfRangeByte_0 24 rfl rfl
theorem dJ18_copyOfRangeByte_0 : decode cJ18_copyOfRangeByte 0 = .ok (.iload_n 1, 1) := dk_27 (dk_at dksJ18_copyOfRangeByte_0 0 rfl rfl)
theorem dJ18_copyOfRangeByte_1 : decode cJ18_copyOfRangeByte 1 = .ok (.iload_n 2, 1) := dk_28 (dk_at dksJ18_copyOfRangeByte_0 1 rfl rfl)
theorem dJ18_copyOfRangeByte_2 : decode cJ18_copyOfRangeByte 2 = .ok (.invokestatic 343, 3) := dk_184 1 87 (dk_at dksJ18_copyOfRangeByte_0 2 rfl rfl)
theorem dJ18_copyOfRangeByte_5 : decode cJ18_copyOfRangeByte 5 = .ok (.iload_n 2, 1) := dk_28 (dk_at dksJ18_copyOfRangeByte_0 5 rfl rfl)
theorem dJ18_copyOfRangeByte_6 : decode cJ18_copyOfRangeByte 6 = .ok (.iload_n 1, 1) := dk_27 (dk_at dksJ18_copyOfRangeByte_0 6 rfl rfl)
theorem dJ18_copyOfRangeByte_7 : decode cJ18_copyOfRangeByte 7 = .ok (.isub, 1) := dk_100 (dk_at dksJ18_copyOfRangeByte_0 7 rfl rfl)
theorem dJ18_copyOfRangeByte_8 : decode cJ18_copyOfRangeByte 8 = .ok (.istore_n 3, 1) := dk_62 (dk_at dksJ18_copyOfRangeByte_0 8 rfl rfl)
theorem dJ18_copyOfRangeByte_9 : decode cJ18_copyOfRangeByte 9 = .ok (.iload_n 3, 1) := dk_29 (dk_at dksJ18_copyOfRangeByte_0 9 rfl rfl)
theorem dJ18_copyOfRangeByte_10 : decode cJ18_copyOfRangeByte 10 = .ok (.newarray .byte, 2) := dk_188_8 (dk_at dksJ18_copyOfRangeByte_0 10 rfl rfl)
theorem dJ18_copyOfRangeByte_12 : decode cJ18_copyOfRangeByte 12 = .ok (.astore 4, 2) := dk_58 4 (dk_at dksJ18_copyOfRangeByte_0 12 rfl rfl)
theorem dJ18_copyOfRangeByte_14 : decode cJ18_copyOfRangeByte 14 = .ok (.aload_n 0, 1) := dk_42 (dk_at dksJ18_copyOfRangeByte_0 14 rfl rfl)
theorem dJ18_copyOfRangeByte_15 : decode cJ18_copyOfRangeByte 15 = .ok (.iload_n 1, 1) := dk_27 (dk_at dksJ18_copyOfRangeByte_0 15 rfl rfl)
theorem dJ18_copyOfRangeByte_16 : decode cJ18_copyOfRangeByte 16 = .ok (.aload 4, 2) := dk_25 4 (dk_at dksJ18_copyOfRangeByte_0 16 rfl rfl)
theorem dJ18_copyOfRangeByte_18 : decode cJ18_copyOfRangeByte 18 = .ok (.iconst 0, 1) := dk_3 (dk_at dksJ18_copyOfRangeByte_0 18 rfl rfl)
theorem dJ18_copyOfRangeByte_19 : decode cJ18_copyOfRangeByte 19 = .ok (.aload_n 0, 1) := dk_42 (dk_at dksJ18_copyOfRangeByte_0 19 rfl rfl)
theorem dJ18_copyOfRangeByte_20 : decode cJ18_copyOfRangeByte 20 = .ok (.arraylength, 1) := dk_190 (dk_at dksJ18_copyOfRangeByte_0 20 rfl rfl)
theorem dJ18_copyOfRangeByte_21 : decode cJ18_copyOfRangeByte 21 = .ok (.iload_n 1, 1) := dk_27 (dk_at dksJ18_copyOfRangeByte_0 21 rfl rfl)
theorem dJ18_copyOfRangeByte_22 : decode cJ18_copyOfRangeByte 22 = .ok (.isub, 1) := dk_100 (dk_at dksJ18_copyOfRangeByte_0 22 rfl rfl)
theorem dJ18_copyOfRangeByte_23 : decode cJ18_copyOfRangeByte 23 = .ok (.iload_n 3, 1) := dk_29 (dk_at dksJ18_copyOfRangeByte_0 23 rfl rfl)
theorem dJ18_copyOfRangeByte_24 : decode cJ18_copyOfRangeByte 24 = .ok (.invokestatic 304, 3) := dk_184 1 48 (dk_at dksJ18_copyOfRangeByte_1 0 rfl rfl)
theorem dJ18_copyOfRangeByte_27 : decode cJ18_copyOfRangeByte 27 = .ok (.invokestatic 150, 3) := dk_184 0 150 (dk_at dksJ18_copyOfRangeByte_1 3 rfl rfl)
theorem dJ18_copyOfRangeByte_30 : decode cJ18_copyOfRangeByte 30 = .ok (.aload 4, 2) := dk_25 4 (dk_at dksJ18_copyOfRangeByte_1 6 rfl rfl)
theorem dJ18_copyOfRangeByte_32 : decode cJ18_copyOfRangeByte 32 = .ok (.areturn, 1) := dk_176 (dk_at dksJ18_copyOfRangeByte_1 8 rfl rfl)
abbrev cJ18_checkLength : ByteArray := prog_44_method_131_code
def yJ18_checkLength : MethodName := ⟨RJ18, "checkLength", "(II)V"⟩
def dkwJ18_checkLength_1 : List UInt8 := [182, 0, 50, 27, 182, 0, 54, 182, 0, 61, 183, 0, 65, 191, 177]
abbrev dktJ18_checkLength_1 : List UInt8 := dkwJ18_checkLength_1 ++ []
def dkwJ18_checkLength_0 : List UInt8 := [27, 26, 162, 0, 35, 187, 0, 43, 89, 187, 0, 45, 89, 183, 0, 47, 26, 182, 0, 54, 19, 1, 81]
abbrev dktJ18_checkLength_0 : List UInt8 := dkwJ18_checkLength_0 ++ dktJ18_checkLength_1
theorem dksJ18_checkLength_0 : cJ18_checkLength.data.toList.drop 0 = dktJ18_checkLength_0 := by decide +kernel
theorem dksJ18_checkLength_1 : cJ18_checkLength.data.toList.drop 23 = dktJ18_checkLength_1 := dk_seg dksJ18_checkLength_0 23 rfl rfl
theorem dJ18_checkLength_0 : decode cJ18_checkLength 0 = .ok (.iload_n 1, 1) := dk_27 (dk_at dksJ18_checkLength_0 0 rfl rfl)
theorem dJ18_checkLength_1 : decode cJ18_checkLength 1 = .ok (.iload_n 0, 1) := dk_26 (dk_at dksJ18_checkLength_0 1 rfl rfl)
theorem dJ18_checkLength_2 : decode cJ18_checkLength 2 = .ok (.if_icmp .ge 35, 3) := dk_162 0 35 (dk_at dksJ18_checkLength_0 2 rfl rfl)
theorem dJ18_checkLength_5 : decode cJ18_checkLength 5 = .ok (.new 43, 3) := dk_187 0 43 (dk_at dksJ18_checkLength_0 5 rfl rfl)
theorem dJ18_checkLength_8 : decode cJ18_checkLength 8 = .ok (.dup, 1) := dk_89 (dk_at dksJ18_checkLength_0 8 rfl rfl)
theorem dJ18_checkLength_9 : decode cJ18_checkLength 9 = .ok (.new 45, 3) := dk_187 0 45 (dk_at dksJ18_checkLength_0 9 rfl rfl)
theorem dJ18_checkLength_12 : decode cJ18_checkLength 12 = .ok (.dup, 1) := dk_89 (dk_at dksJ18_checkLength_0 12 rfl rfl)
theorem dJ18_checkLength_13 : decode cJ18_checkLength 13 = .ok (.invokespecial 47, 3) := dk_183 0 47 (dk_at dksJ18_checkLength_0 13 rfl rfl)
theorem dJ18_checkLength_16 : decode cJ18_checkLength 16 = .ok (.iload_n 0, 1) := dk_26 (dk_at dksJ18_checkLength_0 16 rfl rfl)
theorem dJ18_checkLength_17 : decode cJ18_checkLength 17 = .ok (.invokevirtual 54, 3) := dk_182 0 54 (dk_at dksJ18_checkLength_0 17 rfl rfl)
theorem dJ18_checkLength_20 : decode cJ18_checkLength 20 = .ok (.ldc_w 337, 3) := dk_19 1 81 (dk_at dksJ18_checkLength_0 20 rfl rfl)
theorem dJ18_checkLength_23 : decode cJ18_checkLength 23 = .ok (.invokevirtual 50, 3) := dk_182 0 50 (dk_at dksJ18_checkLength_1 0 rfl rfl)
theorem dJ18_checkLength_26 : decode cJ18_checkLength 26 = .ok (.iload_n 1, 1) := dk_27 (dk_at dksJ18_checkLength_1 3 rfl rfl)
theorem dJ18_checkLength_27 : decode cJ18_checkLength 27 = .ok (.invokevirtual 54, 3) := dk_182 0 54 (dk_at dksJ18_checkLength_1 4 rfl rfl)
theorem dJ18_checkLength_30 : decode cJ18_checkLength 30 = .ok (.invokevirtual 61, 3) := dk_182 0 61 (dk_at dksJ18_checkLength_1 7 rfl rfl)
theorem dJ18_checkLength_33 : decode cJ18_checkLength 33 = .ok (.invokespecial 65, 3) := dk_183 0 65 (dk_at dksJ18_checkLength_1 10 rfl rfl)
theorem dJ18_checkLength_36 : decode cJ18_checkLength 36 = .ok (.athrow, 1) := dk_191 (dk_at dksJ18_checkLength_1 13 rfl rfl)
theorem dJ18_checkLength_37 : decode cJ18_checkLength 37 = .ok (.return_, 1) := dk_177 (dk_at dksJ18_checkLength_1 14 rfl rfl)
abbrev cJ18_copyOf_2 : ByteArray := prog_44_method_119_code
def yJ18_copyOf_2 : MethodName := ⟨RJ18, "copyOf", "([Ljava/lang/Object;I)[Ljava/lang/Object;"⟩
def dkwJ18_copyOf_2_0 : List UInt8 := [42, 27, 42, 182, 0, 86, 184, 1, 44, 176]
abbrev dktJ18_copyOf_2_0 : List UInt8 := dkwJ18_copyOf_2_0 ++ []
theorem dksJ18_copyOf_2_0 : cJ18_copyOf_2.data.toList.drop 0 = dktJ18_copyOf_2_0 := by decide +kernel
theorem dJ18_copyOf_2_0 : decode cJ18_copyOf_2 0 = .ok (.aload_n 0, 1) := dk_42 (dk_at dksJ18_copyOf_2_0 0 rfl rfl)
theorem dJ18_copyOf_2_1 : decode cJ18_copyOf_2 1 = .ok (.iload_n 1, 1) := dk_27 (dk_at dksJ18_copyOf_2_0 1 rfl rfl)
theorem dJ18_copyOf_2_2 : decode cJ18_copyOf_2 2 = .ok (.aload_n 0, 1) := dk_42 (dk_at dksJ18_copyOf_2_0 2 rfl rfl)
theorem dJ18_copyOf_2_3 : decode cJ18_copyOf_2 3 = .ok (.invokevirtual 86, 3) := dk_182 0 86 (dk_at dksJ18_copyOf_2_0 3 rfl rfl)
theorem dJ18_copyOf_2_6 : decode cJ18_copyOf_2 6 = .ok (.invokestatic 300, 3) := dk_184 1 44 (dk_at dksJ18_copyOf_2_0 6 rfl rfl)
theorem dJ18_copyOf_2_9 : decode cJ18_copyOf_2 9 = .ok (.areturn, 1) := dk_176 (dk_at dksJ18_copyOf_2_0 9 rfl rfl)
abbrev cJ18_copyOf_3 : ByteArray := prog_44_method_120_code
def yJ18_copyOf_3 : MethodName := ⟨RJ18, "copyOf", "([Ljava/lang/Object;ILjava/lang/Class;)[Ljava/lang/Object;"⟩
def dkwJ18_copyOf_3_1 : List UInt8 := [78, 42, 3, 45, 3, 42, 190, 27, 184, 1, 48, 184, 0, 150, 45, 176]
abbrev dktJ18_copyOf_3_1 : List UInt8 := dkwJ18_copyOf_3_1 ++ []
def dkwJ18_copyOf_3_0 : List UInt8 := [44, 18, 110, 166, 0, 10, 27, 189, 0, 2, 167, 0, 14, 44, 182, 0, 90, 27, 184, 0, 95, 192, 0, 110]
abbrev dktJ18_copyOf_3_0 : List UInt8 := dkwJ18_copyOf_3_0 ++ dktJ18_copyOf_3_1
theorem dksJ18_copyOf_3_0 : cJ18_copyOf_3.data.toList.drop 0 = dktJ18_copyOf_3_0 := by decide +kernel
theorem dksJ18_copyOf_3_1 : cJ18_copyOf_3.data.toList.drop 24 = dktJ18_copyOf_3_1 := dk_seg dksJ18_copyOf_3_0 24 rfl rfl
theorem dJ18_copyOf_3_0 : decode cJ18_copyOf_3 0 = .ok (.aload_n 2, 1) := dk_44 (dk_at dksJ18_copyOf_3_0 0 rfl rfl)
theorem dJ18_copyOf_3_1 : decode cJ18_copyOf_3 1 = .ok (.ldc 110, 2) := dk_18 110 (dk_at dksJ18_copyOf_3_0 1 rfl rfl)
theorem dJ18_copyOf_3_3 : decode cJ18_copyOf_3 3 = .ok (.if_acmp .ne 10, 3) := dk_166 0 10 (dk_at dksJ18_copyOf_3_0 3 rfl rfl)
theorem dJ18_copyOf_3_6 : decode cJ18_copyOf_3 6 = .ok (.iload_n 1, 1) := dk_27 (dk_at dksJ18_copyOf_3_0 6 rfl rfl)
theorem dJ18_copyOf_3_7 : decode cJ18_copyOf_3 7 = .ok (.anewarray 2, 3) := dk_189 0 2 (dk_at dksJ18_copyOf_3_0 7 rfl rfl)
theorem dJ18_copyOf_3_10 : decode cJ18_copyOf_3 10 = .ok (.goto 14, 3) := dk_167 0 14 (dk_at dksJ18_copyOf_3_0 10 rfl rfl)
theorem dJ18_copyOf_3_13 : decode cJ18_copyOf_3 13 = .ok (.aload_n 2, 1) := dk_44 (dk_at dksJ18_copyOf_3_0 13 rfl rfl)
theorem dJ18_copyOf_3_14 : decode cJ18_copyOf_3 14 = .ok (.invokevirtual 90, 3) := dk_182 0 90 (dk_at dksJ18_copyOf_3_0 14 rfl rfl)
theorem dJ18_copyOf_3_17 : decode cJ18_copyOf_3 17 = .ok (.iload_n 1, 1) := dk_27 (dk_at dksJ18_copyOf_3_0 17 rfl rfl)
theorem dJ18_copyOf_3_18 : decode cJ18_copyOf_3 18 = .ok (.invokestatic 95, 3) := dk_184 0 95 (dk_at dksJ18_copyOf_3_0 18 rfl rfl)
theorem dJ18_copyOf_3_21 : decode cJ18_copyOf_3 21 = .ok (.checkcast 110, 3) := dk_192 0 110 (dk_at dksJ18_copyOf_3_0 21 rfl rfl)
theorem dJ18_copyOf_3_24 : decode cJ18_copyOf_3 24 = .ok (.astore_n 3, 1) := dk_78 (dk_at dksJ18_copyOf_3_1 0 rfl rfl)
theorem dJ18_copyOf_3_25 : decode cJ18_copyOf_3 25 = .ok (.aload_n 0, 1) := dk_42 (dk_at dksJ18_copyOf_3_1 1 rfl rfl)
theorem dJ18_copyOf_3_26 : decode cJ18_copyOf_3 26 = .ok (.iconst 0, 1) := dk_3 (dk_at dksJ18_copyOf_3_1 2 rfl rfl)
theorem dJ18_copyOf_3_27 : decode cJ18_copyOf_3 27 = .ok (.aload_n 3, 1) := dk_45 (dk_at dksJ18_copyOf_3_1 3 rfl rfl)
theorem dJ18_copyOf_3_28 : decode cJ18_copyOf_3 28 = .ok (.iconst 0, 1) := dk_3 (dk_at dksJ18_copyOf_3_1 4 rfl rfl)
theorem dJ18_copyOf_3_29 : decode cJ18_copyOf_3 29 = .ok (.aload_n 0, 1) := dk_42 (dk_at dksJ18_copyOf_3_1 5 rfl rfl)
theorem dJ18_copyOf_3_30 : decode cJ18_copyOf_3 30 = .ok (.arraylength, 1) := dk_190 (dk_at dksJ18_copyOf_3_1 6 rfl rfl)
theorem dJ18_copyOf_3_31 : decode cJ18_copyOf_3 31 = .ok (.iload_n 1, 1) := dk_27 (dk_at dksJ18_copyOf_3_1 7 rfl rfl)
theorem dJ18_copyOf_3_32 : decode cJ18_copyOf_3 32 = .ok (.invokestatic 304, 3) := dk_184 1 48 (dk_at dksJ18_copyOf_3_1 8 rfl rfl)
theorem dJ18_copyOf_3_35 : decode cJ18_copyOf_3 35 = .ok (.invokestatic 150, 3) := dk_184 0 150 (dk_at dksJ18_copyOf_3_1 11 rfl rfl)
theorem dJ18_copyOf_3_38 : decode cJ18_copyOf_3 38 = .ok (.aload_n 3, 1) := dk_45 (dk_at dksJ18_copyOf_3_1 14 rfl rfl)
theorem dJ18_copyOf_3_39 : decode cJ18_copyOf_3 39 = .ok (.areturn, 1) := dk_176 (dk_at dksJ18_copyOf_3_1 15 rfl rfl)
theorem q112 : (Jvm.Cond.initialized "java/util/Arrays") ∈ lw_all := lw_g (lw_at lw_m1 28 rfl) rfl
theorem q730 : (Jvm.Cond.static ({ cls := "java/util/Arrays", name := "copyOf", desc := "([BI)[B" } : Jvm.MethodName)) ∈ lw_all := lw_g (lw_at lw_m3 166 rfl) rfl
theorem q731 : (Jvm.Cond.code ({ cls := "java/util/Arrays", name := "copyOf", desc := "([BI)[B" } : Jvm.MethodName) prog_44_method_121_code (3 : Nat) (Option.some (Jvm.ClassFile.FieldType.array Jvm.ClassFile.FieldType.byte))) ∈ lw_all := lw_g (lw_at lw_m3 167 rfl) rfl
theorem q732 : (Jvm.Cond.methodLink "java/util/Arrays" (310 : Nat) ({ cls := "[B", name := "clone", desc := "()Ljava/lang/Object;" } : Jvm.MethodName)) ∈ lw_all := lw_g (lw_at lw_m3 168 rfl) rfl
theorem q738 : (Jvm.Cond.classLink "java/util/Arrays" (311 : Nat) "[B") ∈ lw_all := lw_g (lw_at lw_m3 174 rfl) rfl
theorem q739 : (Jvm.Cond.methodLink "java/util/Arrays" (304 : Nat) ({ cls := "java/lang/Math", name := "min", desc := "(II)I" } : Jvm.MethodName)) ∈ lw_all := lw_g (lw_at lw_m3 175 rfl) rfl
theorem q740 : (Jvm.Cond.methodLink "java/util/Arrays" (150 : Nat) ({ cls := "java/lang/System", name := "arraycopy", desc := "(Ljava/lang/Object;ILjava/lang/Object;II)V" } : Jvm.MethodName)) ∈ lw_all := lw_g (lw_at lw_m3 176 rfl) rfl
theorem q870 : (Jvm.Cond.static ({ cls := "java/util/Arrays", name := "copyOfRange", desc := "([BII)[B" } : Jvm.MethodName)) ∈ lw_all := lw_g (lw_at lw_m4 66 rfl) rfl
theorem q871 : (Jvm.Cond.code ({ cls := "java/util/Arrays", name := "copyOfRange", desc := "([BII)[B" } : Jvm.MethodName) prog_44_method_132_code (3 : Nat) (Option.some (Jvm.ClassFile.FieldType.array Jvm.ClassFile.FieldType.byte))) ∈ lw_all := lw_g (lw_at lw_m4 67 rfl) rfl
theorem q872 : (Jvm.Cond.methodLink "java/util/Arrays" (339 : Nat) ({ cls := "java/util/Arrays", name := "copyOfRangeByte", desc := "([BII)[B" } : Jvm.MethodName)) ∈ lw_all := lw_g (lw_at lw_m4 68 rfl) rfl
theorem q873 : (Jvm.Cond.static ({ cls := "java/util/Arrays", name := "copyOfRangeByte", desc := "([BII)[B" } : Jvm.MethodName)) ∈ lw_all := lw_g (lw_at lw_m4 69 rfl) rfl
theorem q874 : (Jvm.Cond.code ({ cls := "java/util/Arrays", name := "copyOfRangeByte", desc := "([BII)[B" } : Jvm.MethodName) prog_44_method_133_code (5 : Nat) (Option.some (Jvm.ClassFile.FieldType.array Jvm.ClassFile.FieldType.byte))) ∈ lw_all := lw_g (lw_at lw_m4 70 rfl) rfl
theorem q875 : (Jvm.Cond.methodLink "java/util/Arrays" (343 : Nat) ({ cls := "java/util/Arrays", name := "checkLength", desc := "(II)V" } : Jvm.MethodName)) ∈ lw_all := lw_g (lw_at lw_m4 71 rfl) rfl
theorem q876 : (Jvm.Cond.static ({ cls := "java/util/Arrays", name := "checkLength", desc := "(II)V" } : Jvm.MethodName)) ∈ lw_all := lw_g (lw_at lw_m4 72 rfl) rfl
theorem q877 : (Jvm.Cond.code ({ cls := "java/util/Arrays", name := "checkLength", desc := "(II)V" } : Jvm.MethodName) prog_44_method_131_code (2 : Nat) (Option.none : Option Jvm.ClassFile.FieldType)) ∈ lw_all := lw_g (lw_at lw_m4 73 rfl) rfl
theorem q878 : (Jvm.Cond.classLink "java/util/Arrays" (43 : Nat) "java/lang/IllegalArgumentException") ∈ lw_all := lw_g (lw_at lw_m4 74 rfl) rfl
theorem q879 : (Jvm.Cond.classLink "java/util/Arrays" (45 : Nat) "java/lang/StringBuilder") ∈ lw_all := lw_g (lw_at lw_m4 75 rfl) rfl
theorem q880 : (Jvm.Cond.methodLink "java/util/Arrays" (47 : Nat) ({ cls := "java/lang/StringBuilder", name := "<init>", desc := "()V" } : Jvm.MethodName)) ∈ lw_all := lw_g (lw_at lw_m4 76 rfl) rfl
theorem q881 : (Jvm.Cond.methodLink "java/util/Arrays" (54 : Nat) ({ cls := "java/lang/StringBuilder", name := "append", desc := "(I)Ljava/lang/StringBuilder;" } : Jvm.MethodName)) ∈ lw_all := lw_g (lw_at lw_m4 77 rfl) rfl
theorem q882 : (Jvm.Cond.stringRef "java/util/Arrays" (337 : Nat) " > ") ∈ lw_tbl := lw_at lw_m4 78 rfl
theorem q883 : (Jvm.Cond.methodLink "java/util/Arrays" (50 : Nat) ({ cls := "java/lang/StringBuilder", name := "append", desc := "(Ljava/lang/String;)Ljava/lang/StringBuilder;" } : Jvm.MethodName)) ∈ lw_all := lw_g (lw_at lw_m4 79 rfl) rfl
theorem q884 : (Jvm.Cond.methodLink "java/util/Arrays" (61 : Nat) ({ cls := "java/lang/StringBuilder", name := "toString", desc := "()Ljava/lang/String;" } : Jvm.MethodName)) ∈ lw_all := lw_g (lw_at lw_m4 80 rfl) rfl
theorem q885 : (Jvm.Cond.methodLink "java/util/Arrays" (65 : Nat) ({ cls := "java/lang/IllegalArgumentException", name := "<init>", desc := "(Ljava/lang/String;)V" } : Jvm.MethodName)) ∈ lw_all := lw_g (lw_at lw_m4 81 rfl) rfl
theorem q917 : (Jvm.Cond.static ({ cls := "java/util/Arrays", name := "copyOf", desc := "([Ljava/lang/Object;I)[Ljava/lang/Object;" } : Jvm.MethodName)) ∈ lw_all := lw_g (lw_at lw_m4 113 rfl) rfl
theorem q918 : (Jvm.Cond.code ({ cls := "java/util/Arrays", name := "copyOf", desc := "([Ljava/lang/Object;I)[Ljava/lang/Object;" } : Jvm.MethodName) prog_44_method_119_code (2 : Nat) (Option.some (Jvm.ClassFile.FieldType.array (Jvm.ClassFile.FieldType.object "java/lang/Object")))) ∈ lw_all := lw_g (lw_at lw_m4 114 rfl) rfl
theorem q919 : (Jvm.Cond.methodLink "java/util/Arrays" (86 : Nat) ({ cls := "java/lang/Object", name := "getClass", desc := "()Ljava/lang/Class;" } : Jvm.MethodName)) ∈ lw_all := lw_g (lw_at lw_m4 115 rfl) rfl
theorem q949 : (Jvm.Cond.methodLink "java/util/Arrays" (300 : Nat) ({ cls := "java/util/Arrays", name := "copyOf", desc := "([Ljava/lang/Object;ILjava/lang/Class;)[Ljava/lang/Object;" } : Jvm.MethodName)) ∈ lw_all := lw_g (lw_at lw_m4 145 rfl) rfl
theorem q950 : (Jvm.Cond.static ({ cls := "java/util/Arrays", name := "copyOf", desc := "([Ljava/lang/Object;ILjava/lang/Class;)[Ljava/lang/Object;" } : Jvm.MethodName)) ∈ lw_all := lw_g (lw_at lw_m4 146 rfl) rfl
theorem q951 : (Jvm.Cond.code ({ cls := "java/util/Arrays", name := "copyOf", desc := "([Ljava/lang/Object;ILjava/lang/Class;)[Ljava/lang/Object;" } : Jvm.MethodName) prog_44_method_120_code (4 : Nat) (Option.some (Jvm.ClassFile.FieldType.array (Jvm.ClassFile.FieldType.object "java/lang/Object")))) ∈ lw_all := lw_g (lw_at lw_m4 147 rfl) rfl
theorem q952 : (Jvm.Cond.classLink "java/util/Arrays" (110 : Nat) "[Ljava/lang/Object;") ∈ lw_all := lw_g (lw_at lw_m4 148 rfl) rfl
theorem q954 : (Jvm.Cond.classLink "java/util/Arrays" (2 : Nat) "java/lang/Object") ∈ lw_all := lw_g (lw_at lw_m4 150 rfl) rfl
/-! java/lang/StringLatin1 -/
set_option maxRecDepth 100000
def RJ19 : String := "java/lang/StringLatin1"
abbrev cJ19_inflate : ByteArray := prog_37_method_50_code
def yJ19_inflate : MethodName := ⟨RJ19, "inflate", "([BI[BII)V"⟩
def dkwJ19_inflate_0 : List UInt8 := [42, 27, 44, 29, 21, 4, 184, 0, 240, 177]
abbrev dktJ19_inflate_0 : List UInt8 := dkwJ19_inflate_0 ++ []
theorem dksJ19_inflate_0 : cJ19_inflate.data.toList.drop 0 = dktJ19_inflate_0 := by decide +kernel
theorem dJ19_inflate_0 : decode cJ19_inflate 0 = .ok (.aload_n 0, 1) := dk_42 (dk_at dksJ19_inflate_0 0 rfl rfl)
theorem dJ19_inflate_1 : decode cJ19_inflate 1 = .ok (.iload_n 1, 1) := dk_27 (dk_at dksJ19_inflate_0 1 rfl rfl)
theorem dJ19_inflate_2 : decode cJ19_inflate 2 = .ok (.aload_n 2, 1) := dk_44 (dk_at dksJ19_inflate_0 2 rfl rfl)
theorem dJ19_inflate_3 : decode cJ19_inflate 3 = .ok (.iload_n 3, 1) := dk_29 (dk_at dksJ19_inflate_0 3 rfl rfl)
theorem dJ19_inflate_4 : decode cJ19_inflate 4 = .ok (.iload 4, 2) := dk_21 4 (dk_at dksJ19_inflate_0 4 rfl rfl)
theorem dJ19_inflate_6 : decode cJ19_inflate 6 = .ok (.invokestatic 240, 3) := dk_184 0 240 (dk_at dksJ19_inflate_0 6 rfl rfl)
theorem dJ19_inflate_9 : decode cJ19_inflate 9 = .ok (.return_, 1) := dk_177 (dk_at dksJ19_inflate_0 9 rfl rfl)
theorem q114 : (Jvm.Cond.initialized "java/lang/StringLatin1") ∈ lw_all := lw_g (lw_at lw_m1 30 rfl) rfl
theorem q797 : (Jvm.Cond.static ({ cls := "java/lang/StringLatin1", name := "inflate", desc := "([BI[BII)V" } : Jvm.MethodName)) ∈ lw_all := lw_g (lw_at lw_m3 233 rfl) rfl
theorem q798 : (Jvm.Cond.code ({ cls := "java/lang/StringLatin1", name := "inflate", desc := "([BI[BII)V" } : Jvm.MethodName) prog_37_method_50_code (5 : Nat) (Option.none : Option Jvm.ClassFile.FieldType)) ∈ lw_all := lw_g (lw_at lw_m3 234 rfl) rfl
theorem q799 : (Jvm.Cond.methodLink "java/lang/StringLatin1" (240 : Nat) ({ cls := "java/lang/StringUTF16", name := "inflate", desc := "([BI[BII)V" } : Jvm.MethodName)) ∈ lw_all := lw_g (lw_at lw_m3 235 rfl) rfl
/-! java/lang/Number -/
set_option maxRecDepth 100000
def RJ20 : String := "java/lang/Number"
abbrev cJ20_init : ByteArray := prog_33_method_1_code
def yJ20_init : MethodName := ⟨RJ20, "<init>", "()V"⟩
theorem dJ20_init_0 : decode cJ20_init 0 = .ok (.aload_n 0, 1) := by decide +kernel
theorem dJ20_init_1 : decode cJ20_init 1 = .ok (.invokespecial 1, 3) := by decide +kernel
theorem dJ20_init_4 : decode cJ20_init 4 = .ok (.return_, 1) := by decide +kernel
theorem q115 : (Jvm.Cond.initialized "java/lang/Number") ∈ lw_all := lw_g (lw_at lw_m1 31 rfl) rfl
theorem q975 : (Jvm.Cond.instanceMethod ({ cls := "java/lang/Number", name := "<init>", desc := "()V" } : Jvm.MethodName)) ∈ lw_all := lw_g (lw_at lw_m4 171 rfl) rfl
theorem q976 : (Jvm.Cond.code ({ cls := "java/lang/Number", name := "<init>", desc := "()V" } : Jvm.MethodName) prog_33_method_1_code (1 : Nat) (Option.none : Option Jvm.ClassFile.FieldType)) ∈ lw_all := lw_g (lw_at lw_m4 172 rfl) rfl
theorem q977 : (Jvm.Cond.methodLink "java/lang/Number" (1 : Nat) ({ cls := "java/lang/Object", name := "<init>", desc := "()V" } : Jvm.MethodName)) ∈ lw_all := lw_g (lw_at lw_m4 173 rfl) rfl
/-! java/lang/Integer -/
set_option maxRecDepth 100000
def RJ21 : String := "java/lang/Integer"
def TJ21 : u_T := fun k => match k with
  | _ => ("java/lang/Integer", "value", "I", true)
def tyJ21 : Nat → FieldType := fun k => match k with
  | _ => .int
abbrev wsJ210 : List Cond := u_ws RJ21 TJ21 1
theorem nmJ21 : ∀ a, a < 1 → ∀ b, b < 1 → a ≠ b → (TJ21 a).2.1 ≠ (TJ21 b).2.1 := by decide +kernel
theorem tyJ21_ok : ∀ k, k < 1 → parseFieldDescriptor (TJ21 k).2.2.1 = some (tyJ21 k) := by decide +kernel
abbrev cJ21_stringSize : ByteArray := prog_29_method_13_code
def yJ21_stringSize : MethodName := ⟨RJ21, "stringSize", "(I)I"⟩
def dkwJ21_stringSize_1 : List UInt8 := [164, 0, 7, 29, 27, 96, 172, 16, 10, 28, 104, 61, 132, 3, 1, 167, 255, 233, 16, 10, 27, 96, 172]
abbrev dktJ21_stringSize_1 : List UInt8 := dkwJ21_stringSize_1 ++ []
def dkwJ21_stringSize_0 : List UInt8 := [4, 60, 26, 155, 0, 8, 3, 60, 26, 116, 59, 16, 246, 61, 4, 62, 29, 16, 10, 162, 0, 23, 26, 28]
abbrev dktJ21_stringSize_0 : List UInt8 := dkwJ21_stringSize_0 ++ dktJ21_stringSize_1
theorem dksJ21_stringSize_0 : cJ21_stringSize.data.toList.drop 0 = dktJ21_stringSize_0 := by decide +kernel
theorem dksJ21_stringSize_1 : cJ21_stringSize.data.toList.drop 24 = dktJ21_stringSize_1 := dk_seg dksJ21_stringSize_0 24 rfl rfl
theorem dJ21_stringSize_0 : decode cJ21_stringSize 0 = .ok (.iconst 1, 1) := dk_4 (dk_at dksJ21_stringSize_0 0 rfl rfl)
theorem dJ21_stringSize_1 : decode cJ21_stringSize 1 = .ok (.istore_n 1, 1) := dk_60 (dk_at dksJ21_stringSize_0 1 rfl rfl)
theorem dJ21_stringSize_2 : decode cJ21_stringSize 2 = .ok (.iload_n 0, 1) := dk_26 (dk_at dksJ21_stringSize_0 2 rfl rfl)
theorem dJ21_stringSize_3 : decode cJ21_stringSize 3 = .ok (.ifCond .lt 8, 3) := dk_155 0 8 (dk_at dksJ21_stringSize_0 3 rfl rfl)
theorem dJ21_stringSize_6 : decode cJ21_stringSize 6 = .ok (.iconst 0, 1) := dk_3 (dk_at dksJ21_stringSize_0 6 rfl rfl)
theorem dJ21_stringSize_7 : decode cJ21_stringSize 7 = .ok (.istore_n 1, 1) := dk_60 (dk_at dksJ21_stringSize_0 7 rfl rfl)
theorem dJ21_stringSize_8 : decode cJ21_stringSize 8 = .ok (.iload_n 0, 1) := dk_26 (dk_at dksJ21_stringSize_0 8 rfl rfl)
theorem dJ21_stringSize_9 : decode cJ21_stringSize 9 = .ok (.ineg, 1) := dk_116 (dk_at dksJ21_stringSize_0 9 rfl rfl)
theorem dJ21_stringSize_10 : decode cJ21_stringSize 10 = .ok (.istore_n 0, 1) := dk_59 (dk_at dksJ21_stringSize_0 10 rfl rfl)
theorem dJ21_stringSize_11 : decode cJ21_stringSize 11 = .ok (.bipush (-10), 2) := dk_16 246 (dk_at dksJ21_stringSize_0 11 rfl rfl)
theorem dJ21_stringSize_13 : decode cJ21_stringSize 13 = .ok (.istore_n 2, 1) := dk_61 (dk_at dksJ21_stringSize_0 13 rfl rfl)
theorem dJ21_stringSize_14 : decode cJ21_stringSize 14 = .ok (.iconst 1, 1) := dk_4 (dk_at dksJ21_stringSize_0 14 rfl rfl)
theorem dJ21_stringSize_15 : decode cJ21_stringSize 15 = .ok (.istore_n 3, 1) := dk_62 (dk_at dksJ21_stringSize_0 15 rfl rfl)
theorem dJ21_stringSize_16 : decode cJ21_stringSize 16 = .ok (.iload_n 3, 1) := dk_29 (dk_at dksJ21_stringSize_0 16 rfl rfl)
theorem dJ21_stringSize_17 : decode cJ21_stringSize 17 = .ok (.bipush 10, 2) := dk_16 10 (dk_at dksJ21_stringSize_0 17 rfl rfl)
theorem dJ21_stringSize_19 : decode cJ21_stringSize 19 = .ok (.if_icmp .ge 23, 3) := dk_162 0 23 (dk_at dksJ21_stringSize_0 19 rfl rfl)
theorem dJ21_stringSize_22 : decode cJ21_stringSize 22 = .ok (.iload_n 0, 1) := dk_26 (dk_at dksJ21_stringSize_0 22 rfl rfl)
theorem dJ21_stringSize_23 : decode cJ21_stringSize 23 = .ok (.iload_n 2, 1) := dk_28 (dk_at dksJ21_stringSize_0 23 rfl rfl)
theorem dJ21_stringSize_24 : decode cJ21_stringSize 24 = .ok (.if_icmp .le 7, 3) := dk_164 0 7 (dk_at dksJ21_stringSize_1 0 rfl rfl)
theorem dJ21_stringSize_27 : decode cJ21_stringSize 27 = .ok (.iload_n 3, 1) := dk_29 (dk_at dksJ21_stringSize_1 3 rfl rfl)
theorem dJ21_stringSize_28 : decode cJ21_stringSize 28 = .ok (.iload_n 1, 1) := dk_27 (dk_at dksJ21_stringSize_1 4 rfl rfl)
theorem dJ21_stringSize_29 : decode cJ21_stringSize 29 = .ok (.iadd, 1) := dk_96 (dk_at dksJ21_stringSize_1 5 rfl rfl)
theorem dJ21_stringSize_30 : decode cJ21_stringSize 30 = .ok (.ireturn, 1) := dk_172 (dk_at dksJ21_stringSize_1 6 rfl rfl)
theorem dJ21_stringSize_31 : decode cJ21_stringSize 31 = .ok (.bipush 10, 2) := dk_16 10 (dk_at dksJ21_stringSize_1 7 rfl rfl)
theorem dJ21_stringSize_33 : decode cJ21_stringSize 33 = .ok (.iload_n 2, 1) := dk_28 (dk_at dksJ21_stringSize_1 9 rfl rfl)
theorem dJ21_stringSize_34 : decode cJ21_stringSize 34 = .ok (.imul, 1) := dk_104 (dk_at dksJ21_stringSize_1 10 rfl rfl)
theorem dJ21_stringSize_35 : decode cJ21_stringSize 35 = .ok (.istore_n 2, 1) := dk_61 (dk_at dksJ21_stringSize_1 11 rfl rfl)
theorem dJ21_stringSize_36 : decode cJ21_stringSize 36 = .ok (.iinc 3 1, 3) := dk_132 3 1 (dk_at dksJ21_stringSize_1 12 rfl rfl)
theorem dJ21_stringSize_39 : decode cJ21_stringSize 39 = .ok (.goto (-23), 3) := dk_167 255 233 (dk_at dksJ21_stringSize_1 15 rfl rfl)
theorem dJ21_stringSize_42 : decode cJ21_stringSize 42 = .ok (.bipush 10, 2) := dk_16 10 (dk_at dksJ21_stringSize_1 18 rfl rfl)
theorem dJ21_stringSize_44 : decode cJ21_stringSize 44 = .ok (.iload_n 1, 1) := dk_27 (dk_at dksJ21_stringSize_1 20 rfl rfl)
theorem dJ21_stringSize_45 : decode cJ21_stringSize 45 = .ok (.iadd, 1) := dk_96 (dk_at dksJ21_stringSize_1 21 rfl rfl)
theorem dJ21_stringSize_46 : decode cJ21_stringSize 46 = .ok (.ireturn, 1) := dk_172 (dk_at dksJ21_stringSize_1 22 rfl rfl)
abbrev cJ21_getChars : ByteArray := prog_29_method_12_code
def yJ21_getChars : MethodName := ⟨RJ21, "getChars", "(II[B)I"⟩
def dkwJ21_getChars_5 : List UInt8 := [16, 45, 84, 21, 5, 172]
abbrev dktJ21_getChars_5 : List UInt8 := dkwJ21_getChars_5 ++ []
def dkwJ21_getChars_4 : List UInt8 := [132, 5, 255, 21, 5, 178, 0, 87, 26, 116, 51, 84, 21, 6, 153, 0, 12, 44, 132, 5, 255, 21, 5]
abbrev dktJ21_getChars_4 : List UInt8 := dkwJ21_getChars_4 ++ dktJ21_getChars_5
def dkwJ21_getChars_3 : List UInt8 := [167, 255, 209, 44, 132, 5, 255, 21, 5, 178, 0, 83, 26, 116, 51, 84, 26, 16, 247, 162, 0, 16, 44]
abbrev dktJ21_getChars_3 : List UInt8 := dkwJ21_getChars_3 ++ dktJ21_getChars_4
def dkwJ21_getChars_2 : List UInt8 := [21, 5, 178, 0, 83, 21, 4, 51, 84, 44, 132, 5, 255, 21, 5, 178, 0, 87, 21, 4, 51, 84]
abbrev dktJ21_getChars_2 : List UInt8 := dkwJ21_getChars_2 ++ dktJ21_getChars_3
def dkwJ21_getChars_1 : List UInt8 := [16, 156, 163, 0, 47, 26, 16, 100, 108, 62, 29, 16, 100, 104, 26, 100, 54, 4, 29, 59, 44, 132, 5, 255]
abbrev dktJ21_getChars_1 : List UInt8 := dkwJ21_getChars_1 ++ dktJ21_getChars_2
def dkwJ21_getChars_0 : List UInt8 := [27, 54, 5, 26, 156, 0, 7, 4, 167, 0, 4, 3, 54, 6, 21, 6, 154, 0, 6, 26, 116, 59, 26]
abbrev dktJ21_getChars_0 : List UInt8 := dkwJ21_getChars_0 ++ dktJ21_getChars_1
theorem dksJ21_getChars_0 : cJ21_getChars.data.toList.drop 0 = dktJ21_getChars_0 := by decide +kernel
theorem dksJ21_getChars_1 : cJ21_getChars.data.toList.drop 23 = dktJ21_getChars_1 := dk_seg dksJ21_getChars_0 23 rfl rfl
theorem dksJ21_getChars_2 : cJ21_getChars.data.toList.drop 47 = dktJ21_getChars_2 := dk_seg dksJ21_getChars_1 24 rfl rfl
theorem dksJ21_getChars_3 : cJ21_getChars.data.toList.drop 69 = dktJ21_getChars_3 := dk_seg dksJ21_getChars_2 22 rfl rfl
theorem dksJ21_getChars_4 : cJ21_getChars.data.toList.drop 92 = dktJ21_getChars_4 := dk_seg dksJ21_getChars_3 23 rfl rfl
theorem dksJ21_getChars_5 : cJ21_getChars.data.toList.drop 115 = dktJ21_getChars_5 := dk_seg dksJ21_getChars_4 23 rfl rfl
theorem dJ21_getChars_0 : decode cJ21_getChars 0 = .ok (.iload_n 1, 1) := dk_27 (dk_at dksJ21_getChars_0 0 rfl rfl)
theorem dJ21_getChars_1 : decode cJ21_getChars 1 = .ok (.istore 5, 2) := dk_54 5 (dk_at dksJ21_getChars_0 1 rfl rfl)
theorem dJ21_getChars_3 : decode cJ21_getChars 3 = .ok (.iload_n 0, 1) := dk_26 (dk_at dksJ21_getChars_0 3 rfl rfl)
theorem dJ21_getChars_4 : decode cJ21_getChars 4 = .ok (.ifCond .ge 7, 3) := dk_156 0 7 (dk_at dksJ21_getChars_0 4 rfl rfl)
theorem dJ21_getChars_7 : decode cJ21_getChars 7 = .ok (.iconst 1, 1) := dk_4 (dk_at dksJ21_getChars_0 7 rfl rfl)
theorem dJ21_getChars_8 : decode cJ21_getChars 8 = .ok (.goto 4, 3) := dk_167 0 4 (dk_at dksJ21_getChars_0 8 rfl rfl)
theorem dJ21_getChars_11 : decode cJ21_getChars 11 = .ok (.iconst 0, 1) := dk_3 (dk_at dksJ21_getChars_0 11 rfl rfl)
theorem dJ21_getChars_12 : decode cJ21_getChars 12 = .ok (.istore 6, 2) := dk_54 6 (dk_at dksJ21_getChars_0 12 rfl rfl)
theorem dJ21_getChars_14 : decode cJ21_getChars 14 = .ok (.iload 6, 2) := dk_21 6 (dk_at dksJ21_getChars_0 14 rfl rfl)
theorem dJ21_getChars_16 : decode cJ21_getChars 16 = .ok (.ifCond .ne 6, 3) := dk_154 0 6 (dk_at dksJ21_getChars_0 16 rfl rfl)
theorem dJ21_getChars_19 : decode cJ21_getChars 19 = .ok (.iload_n 0, 1) := dk_26 (dk_at dksJ21_getChars_0 19 rfl rfl)
theorem dJ21_getChars_20 : decode cJ21_getChars 20 = .ok (.ineg, 1) := dk_116 (dk_at dksJ21_getChars_0 20 rfl rfl)
theorem dJ21_getChars_21 : decode cJ21_getChars 21 = .ok (.istore_n 0, 1) := dk_59 (dk_at dksJ21_getChars_0 21 rfl rfl)
theorem dJ21_getChars_22 : decode cJ21_getChars 22 = .ok (.iload_n 0, 1) := dk_26 (dk_at dksJ21_getChars_0 22 rfl rfl)
theorem dJ21_getChars_23 : decode cJ21_getChars 23 = .ok (.bipush (-100), 2) := dk_16 156 (dk_at dksJ21_getChars_1 0 rfl rfl)
theorem dJ21_getChars_25 : decode cJ21_getChars 25 = .ok (.if_icmp .gt 47, 3) := dk_163 0 47 (dk_at dksJ21_getChars_1 2 rfl rfl)
theorem dJ21_getChars_28 : decode cJ21_getChars 28 = .ok (.iload_n 0, 1) := dk_26 (dk_at dksJ21_getChars_1 5 rfl rfl)
theorem dJ21_getChars_29 : decode cJ21_getChars 29 = .ok (.bipush 100, 2) := dk_16 100 (dk_at dksJ21_getChars_1 6 rfl rfl)
theorem dJ21_getChars_31 : decode cJ21_getChars 31 = .ok (.idiv, 1) := dk_108 (dk_at dksJ21_getChars_1 8 rfl rfl)
theorem dJ21_getChars_32 : decode cJ21_getChars 32 = .ok (.istore_n 3, 1) := dk_62 (dk_at dksJ21_getChars_1 9 rfl rfl)
theorem dJ21_getChars_33 : decode cJ21_getChars 33 = .ok (.iload_n 3, 1) := dk_29 (dk_at dksJ21_getChars_1 10 rfl rfl)
theorem dJ21_getChars_34 : decode cJ21_getChars 34 = .ok (.bipush 100, 2) := dk_16 100 (dk_at dksJ21_getChars_1 11 rfl rfl)
theorem dJ21_getChars_36 : decode cJ21_getChars 36 = .ok (.imul, 1) := dk_104 (dk_at dksJ21_getChars_1 13 rfl rfl)
theorem dJ21_getChars_37 : decode cJ21_getChars 37 = .ok (.iload_n 0, 1) := dk_26 (dk_at dksJ21_getChars_1 14 rfl rfl)
theorem dJ21_getChars_38 : decode cJ21_getChars 38 = .ok (.isub, 1) := dk_100 (dk_at dksJ21_getChars_1 15 rfl rfl)
theorem dJ21_getChars_39 : decode cJ21_getChars 39 = .ok (.istore 4, 2) := dk_54 4 (dk_at dksJ21_getChars_1 16 rfl rfl)
theorem dJ21_getChars_41 : decode cJ21_getChars 41 = .ok (.iload_n 3, 1) := dk_29 (dk_at dksJ21_getChars_1 18 rfl rfl)
theorem dJ21_getChars_42 : decode cJ21_getChars 42 = .ok (.istore_n 0, 1) := dk_59 (dk_at dksJ21_getChars_1 19 rfl rfl)
theorem dJ21_getChars_43 : decode cJ21_getChars 43 = .ok (.aload_n 2, 1) := dk_44 (dk_at dksJ21_getChars_1 20 rfl rfl)
theorem dJ21_getChars_44 : decode cJ21_getChars 44 = .ok (.iinc 5 (-1), 3) := dk_132 5 255 (dk_at dksJ21_getChars_1 21 rfl rfl)
theorem dJ21_getChars_47 : decode cJ21_getChars 47 = .ok (.iload 5, 2) := dk_21 5 (dk_at dksJ21_getChars_2 0 rfl rfl)
theorem dJ21_getChars_49 : decode cJ21_getChars 49 = .ok (.getstatic 83, 3) := dk_178 0 83 (dk_at dksJ21_getChars_2 2 rfl rfl)
theorem dJ21_getChars_52 : decode cJ21_getChars 52 = .ok (.iload 4, 2) := dk_21 4 (dk_at dksJ21_getChars_2 5 rfl rfl)
theorem dJ21_getChars_54 : decode cJ21_getChars 54 = .ok (.baload, 1) := dk_51 (dk_at dksJ21_getChars_2 7 rfl rfl)
theorem dJ21_getChars_55 : decode cJ21_getChars 55 = .ok (.bastore, 1) := dk_84 (dk_at dksJ21_getChars_2 8 rfl rfl)
theorem dJ21_getChars_56 : decode cJ21_getChars 56 = .ok (.aload_n 2, 1) := dk_44 (dk_at dksJ21_getChars_2 9 rfl rfl)
theorem dJ21_getChars_57 : decode cJ21_getChars 57 = .ok (.iinc 5 (-1), 3) := dk_132 5 255 (dk_at dksJ21_getChars_2 10 rfl rfl)
theorem dJ21_getChars_60 : decode cJ21_getChars 60 = .ok (.iload 5, 2) := dk_21 5 (dk_at dksJ21_getChars_2 13 rfl rfl)
theorem dJ21_getChars_62 : decode cJ21_getChars 62 = .ok (.getstatic 87, 3) := dk_178 0 87 (dk_at dksJ21_getChars_2 15 rfl rfl)
theorem dJ21_getChars_65 : decode cJ21_getChars 65 = .ok (.iload 4, 2) := dk_21 4 (dk_at dksJ21_getChars_2 18 rfl rfl)
theorem dJ21_getChars_67 : decode cJ21_getChars 67 = .ok (.baload, 1) := dk_51 (dk_at dksJ21_getChars_2 20 rfl rfl)
theorem dJ21_getChars_68 : decode cJ21_getChars 68 = .ok (.bastore, 1) := dk_84 (dk_at dksJ21_getChars_2 21 rfl rfl)
theorem dJ21_getChars_69 : decode cJ21_getChars 69 = .ok (.goto (-47), 3) := dk_167 255 209 (dk_at dksJ21_getChars_3 0 rfl rfl)
theorem dJ21_getChars_72 : decode cJ21_getChars 72 = .ok (.aload_n 2, 1) := dk_44 (dk_at dksJ21_getChars_3 3 rfl rfl)
theorem dJ21_getChars_73 : decode cJ21_getChars 73 = .ok (.iinc 5 (-1), 3) := dk_132 5 255 (dk_at dksJ21_getChars_3 4 rfl rfl)
theorem dJ21_getChars_76 : decode cJ21_getChars 76 = .ok (.iload 5, 2) := dk_21 5 (dk_at dksJ21_getChars_3 7 rfl rfl)
theorem dJ21_getChars_78 : decode cJ21_getChars 78 = .ok (.getstatic 83, 3) := dk_178 0 83 (dk_at dksJ21_getChars_3 9 rfl rfl)
theorem dJ21_getChars_81 : decode cJ21_getChars 81 = .ok (.iload_n 0, 1) := dk_26 (dk_at dksJ21_getChars_3 12 rfl rfl)
theorem dJ21_getChars_82 : decode cJ21_getChars 82 = .ok (.ineg, 1) := dk_116 (dk_at dksJ21_getChars_3 13 rfl rfl)
theorem dJ21_getChars_83 : decode cJ21_getChars 83 = .ok (.baload, 1) := dk_51 (dk_at dksJ21_getChars_3 14 rfl rfl)
theorem dJ21_getChars_84 : decode cJ21_getChars 84 = .ok (.bastore, 1) := dk_84 (dk_at dksJ21_getChars_3 15 rfl rfl)
theorem dJ21_getChars_85 : decode cJ21_getChars 85 = .ok (.iload_n 0, 1) := dk_26 (dk_at dksJ21_getChars_3 16 rfl rfl)
theorem dJ21_getChars_86 : decode cJ21_getChars 86 = .ok (.bipush (-9), 2) := dk_16 247 (dk_at dksJ21_getChars_3 17 rfl rfl)
theorem dJ21_getChars_88 : decode cJ21_getChars 88 = .ok (.if_icmp .ge 16, 3) := dk_162 0 16 (dk_at dksJ21_getChars_3 19 rfl rfl)
theorem dJ21_getChars_91 : decode cJ21_getChars 91 = .ok (.aload_n 2, 1) := dk_44 (dk_at dksJ21_getChars_3 22 rfl rfl)
theorem dJ21_getChars_92 : decode cJ21_getChars 92 = .ok (.iinc 5 (-1), 3) := dk_132 5 255 (dk_at dksJ21_getChars_4 0 rfl rfl)
theorem dJ21_getChars_95 : decode cJ21_getChars 95 = .ok (.iload 5, 2) := dk_21 5 (dk_at dksJ21_getChars_4 3 rfl rfl)
theorem dJ21_getChars_97 : decode cJ21_getChars 97 = .ok (.getstatic 87, 3) := dk_178 0 87 (dk_at dksJ21_getChars_4 5 rfl rfl)
theorem dJ21_getChars_100 : decode cJ21_getChars 100 = .ok (.iload_n 0, 1) := dk_26 (dk_at dksJ21_getChars_4 8 rfl rfl)
theorem dJ21_getChars_101 : decode cJ21_getChars 101 = .ok (.ineg, 1) := dk_116 (dk_at dksJ21_getChars_4 9 rfl rfl)
theorem dJ21_getChars_102 : decode cJ21_getChars 102 = .ok (.baload, 1) := dk_51 (dk_at dksJ21_getChars_4 10 rfl rfl)
theorem dJ21_getChars_103 : decode cJ21_getChars 103 = .ok (.bastore, 1) := dk_84 (dk_at dksJ21_getChars_4 11 rfl rfl)
theorem dJ21_getChars_104 : decode cJ21_getChars 104 = .ok (.iload 6, 2) := dk_21 6 (dk_at dksJ21_getChars_4 12 rfl rfl)
theorem dJ21_getChars_106 : decode cJ21_getChars 106 = .ok (.ifCond .eq 12, 3) := dk_153 0 12 (dk_at dksJ21_getChars_4 14 rfl rfl)
theorem dJ21_getChars_109 : decode cJ21_getChars 109 = .ok (.aload_n 2, 1) := dk_44 (dk_at dksJ21_getChars_4 17 rfl rfl)
theorem dJ21_getChars_110 : decode cJ21_getChars 110 = .ok (.iinc 5 (-1), 3) := dk_132 5 255 (dk_at dksJ21_getChars_4 18 rfl rfl)
theorem dJ21_getChars_113 : decode cJ21_getChars 113 = .ok (.iload 5, 2) := dk_21 5 (dk_at dksJ21_getChars_4 21 rfl rfl)
theorem dJ21_getChars_115 : decode cJ21_getChars 115 = .ok (.bipush 45, 2) := dk_16 45 (dk_at dksJ21_getChars_5 0 rfl rfl)
theorem dJ21_getChars_117 : decode cJ21_getChars 117 = .ok (.bastore, 1) := dk_84 (dk_at dksJ21_getChars_5 2 rfl rfl)
theorem dJ21_getChars_118 : decode cJ21_getChars 118 = .ok (.iload 5, 2) := dk_21 5 (dk_at dksJ21_getChars_5 3 rfl rfl)
theorem dJ21_getChars_120 : decode cJ21_getChars 120 = .ok (.ireturn, 1) := dk_172 (dk_at dksJ21_getChars_5 5 rfl rfl)
abbrev cJ21_valueOf : ByteArray := prog_29_method_22_code
def yJ21_valueOf : MethodName := ⟨RJ21, "valueOf", "(I)Ljava/lang/Integer;"⟩
def dkwJ21_valueOf_1 : List UInt8 := [187, 0, 1, 89, 26, 183, 0, 199, 176]
abbrev dktJ21_valueOf_1 : List UInt8 := dkwJ21_valueOf_1 ++ []
def dkwJ21_valueOf_0 : List UInt8 := [26, 16, 128, 161, 0, 20, 26, 178, 0, 191, 163, 0, 13, 178, 0, 195, 26, 17, 0, 128, 96, 50, 176]
abbrev dktJ21_valueOf_0 : List UInt8 := dkwJ21_valueOf_0 ++ dktJ21_valueOf_1
theorem dksJ21_valueOf_0 : cJ21_valueOf.data.toList.drop 0 = dktJ21_valueOf_0 := by decide +kernel
theorem dksJ21_valueOf_1 : cJ21_valueOf.data.toList.drop 23 = dktJ21_valueOf_1 := dk_seg dksJ21_valueOf_0 23 rfl rfl
theorem dJ21_valueOf_0 : decode cJ21_valueOf 0 = .ok (.iload_n 0, 1) := dk_26 (dk_at dksJ21_valueOf_0 0 rfl rfl)
theorem dJ21_valueOf_1 : decode cJ21_valueOf 1 = .ok (.bipush (-128), 2) := dk_16 128 (dk_at dksJ21_valueOf_0 1 rfl rfl)
theorem dJ21_valueOf_3 : decode cJ21_valueOf 3 = .ok (.if_icmp .lt 20, 3) := dk_161 0 20 (dk_at dksJ21_valueOf_0 3 rfl rfl)
theorem dJ21_valueOf_6 : decode cJ21_valueOf 6 = .ok (.iload_n 0, 1) := dk_26 (dk_at dksJ21_valueOf_0 6 rfl rfl)
theorem dJ21_valueOf_7 : decode cJ21_valueOf 7 = .ok (.getstatic 191, 3) := dk_178 0 191 (dk_at dksJ21_valueOf_0 7 rfl rfl)
theorem dJ21_valueOf_10 : decode cJ21_valueOf 10 = .ok (.if_icmp .gt 13, 3) := dk_163 0 13 (dk_at dksJ21_valueOf_0 10 rfl rfl)
theorem dJ21_valueOf_13 : decode cJ21_valueOf 13 = .ok (.getstatic 195, 3) := dk_178 0 195 (dk_at dksJ21_valueOf_0 13 rfl rfl)
theorem dJ21_valueOf_16 : decode cJ21_valueOf 16 = .ok (.iload_n 0, 1) := dk_26 (dk_at dksJ21_valueOf_0 16 rfl rfl)
theorem dJ21_valueOf_17 : decode cJ21_valueOf 17 = .ok (.sipush 128, 3) := dk_17 0 128 (dk_at dksJ21_valueOf_0 17 rfl rfl)
theorem dJ21_valueOf_20 : decode cJ21_valueOf 20 = .ok (.iadd, 1) := dk_96 (dk_at dksJ21_valueOf_0 20 rfl rfl)
theorem dJ21_valueOf_21 : decode cJ21_valueOf 21 = .ok (.aaload, 1) := dk_50 (dk_at dksJ21_valueOf_0 21 rfl rfl)
theorem dJ21_valueOf_22 : decode cJ21_valueOf 22 = .ok (.areturn, 1) := dk_176 (dk_at dksJ21_valueOf_0 22 rfl rfl)
theorem dJ21_valueOf_23 : decode cJ21_valueOf 23 = .ok (.new 1, 3) := dk_187 0 1 (dk_at dksJ21_valueOf_1 0 rfl rfl)
theorem dJ21_valueOf_26 : decode cJ21_valueOf 26 = .ok (.dup, 1) := dk_89 (dk_at dksJ21_valueOf_1 3 rfl rfl)
theorem dJ21_valueOf_27 : decode cJ21_valueOf 27 = .ok (.iload_n 0, 1) := dk_26 (dk_at dksJ21_valueOf_1 4 rfl rfl)
theorem dJ21_valueOf_28 : decode cJ21_valueOf 28 = .ok (.invokespecial 199, 3) := dk_183 0 199 (dk_at dksJ21_valueOf_1 5 rfl rfl)
theorem dJ21_valueOf_31 : decode cJ21_valueOf 31 = .ok (.areturn, 1) := dk_176 (dk_at dksJ21_valueOf_1 8 rfl rfl)
abbrev cJ21_init : ByteArray := prog_29_method_23_code
def yJ21_init : MethodName := ⟨RJ21, "<init>", "(I)V"⟩
def dkwJ21_init_0 : List UInt8 := [42, 183, 0, 202, 42, 27, 181, 0, 205, 177]
abbrev dktJ21_init_0 : List UInt8 := dkwJ21_init_0 ++ []
theorem dksJ21_init_0 : cJ21_init.data.toList.drop 0 = dktJ21_init_0 := by decide +kernel
theorem dJ21_init_0 : decode cJ21_init 0 = .ok (.aload_n 0, 1) := dk_42 (dk_at dksJ21_init_0 0 rfl rfl)
theorem dJ21_init_1 : decode cJ21_init 1 = .ok (.invokespecial 202, 3) := dk_183 0 202 (dk_at dksJ21_init_0 1 rfl rfl)
theorem dJ21_init_4 : decode cJ21_init 4 = .ok (.aload_n 0, 1) := dk_42 (dk_at dksJ21_init_0 4 rfl rfl)
theorem dJ21_init_5 : decode cJ21_init 5 = .ok (.iload_n 1, 1) := dk_27 (dk_at dksJ21_init_0 5 rfl rfl)
theorem dJ21_init_6 : decode cJ21_init 6 = .ok (.putfield 205, 3) := dk_181 0 205 (dk_at dksJ21_init_0 6 rfl rfl)
theorem dJ21_init_9 : decode cJ21_init 9 = .ok (.return_, 1) := dk_177 (dk_at dksJ21_init_0 9 rfl rfl)
abbrev cJ21_intValue : ByteArray := prog_29_method_27_code
def yJ21_intValue : MethodName := ⟨RJ21, "intValue", "()I"⟩
theorem dJ21_intValue_0 : decode cJ21_intValue 0 = .ok (.aload_n 0, 1) := by decide +kernel
theorem dJ21_intValue_1 : decode cJ21_intValue 1 = .ok (.getfield 205, 3) := by decide +kernel
theorem dJ21_intValue_4 : decode cJ21_intValue 4 = .ok (.ireturn, 1) := by decide +kernel
theorem q116 : (Jvm.Cond.initialized "java/lang/Integer") ∈ lw_all := lw_g (lw_at lw_m1 32 rfl) rfl
theorem q825 : (Jvm.Cond.static ({ cls := "java/lang/Integer", name := "stringSize", desc := "(I)I" } : Jvm.MethodName)) ∈ lw_all := lw_g (lw_at lw_m4 21 rfl) rfl
theorem q826 : (Jvm.Cond.code ({ cls := "java/lang/Integer", name := "stringSize", desc := "(I)I" } : Jvm.MethodName) prog_29_method_13_code (4 : Nat) (Option.some Jvm.ClassFile.FieldType.int)) ∈ lw_all := lw_g (lw_at lw_m4 22 rfl) rfl
theorem q828 : (Jvm.Cond.static ({ cls := "java/lang/Integer", name := "getChars", desc := "(II[B)I" } : Jvm.MethodName)) ∈ lw_all := lw_g (lw_at lw_m4 24 rfl) rfl
theorem q829 : (Jvm.Cond.code ({ cls := "java/lang/Integer", name := "getChars", desc := "(II[B)I" } : Jvm.MethodName) prog_29_method_12_code (7 : Nat) (Option.some Jvm.ClassFile.FieldType.int)) ∈ lw_all := lw_g (lw_at lw_m4 25 rfl) rfl
theorem q830 : (Jvm.Cond.fieldLink "java/lang/Integer" (83 : Nat) "java/lang/Integer" "DigitOnes" "[B") ∈ lw_all := lw_g (lw_at lw_m4 26 rfl) rfl
theorem q831 : (Jvm.Cond.laysStatic "java/lang/Integer" "DigitOnes" "[B") ∈ lw_tbl := lw_at lw_m4 27 rfl
theorem q832 : (Jvm.Cond.fieldLink "java/lang/Integer" (87 : Nat) "java/lang/Integer" "DigitTens" "[B") ∈ lw_all := lw_g (lw_at lw_m4 28 rfl) rfl
theorem q833 : (Jvm.Cond.laysStatic "java/lang/Integer" "DigitTens" "[B") ∈ lw_tbl := lw_at lw_m4 29 rfl
theorem q944 : (Jvm.Cond.selects "java/lang/Integer" ({ cls := "java/lang/Object", name := "getClass", desc := "()Ljava/lang/Class;" } : Jvm.MethodName) ({ cls := "java/lang/Object", name := "getClass", desc := "()Ljava/lang/Class;" } : Jvm.MethodName)) ∈ lw_all := lw_g (lw_at lw_m4 140 rfl) rfl
theorem q963 : (Jvm.Cond.static ({ cls := "java/lang/Integer", name := "valueOf", desc := "(I)Ljava/lang/Integer;" } : Jvm.MethodName)) ∈ lw_all := lw_g (lw_at lw_m4 159 rfl) rfl
theorem q964 : (Jvm.Cond.code ({ cls := "java/lang/Integer", name := "valueOf", desc := "(I)Ljava/lang/Integer;" } : Jvm.MethodName) prog_29_method_22_code (1 : Nat) (Option.some (Jvm.ClassFile.FieldType.object "java/lang/Integer"))) ∈ lw_all := lw_g (lw_at lw_m4 160 rfl) rfl
theorem q965 : (Jvm.Cond.fieldLink "java/lang/Integer" (191 : Nat) "java/lang/Integer$IntegerCache" "high" "I") ∈ lw_all := lw_g (lw_at lw_m4 161 rfl) rfl
theorem q967 : (Jvm.Cond.fieldLink "java/lang/Integer" (195 : Nat) "java/lang/Integer$IntegerCache" "cache" "[Ljava/lang/Integer;") ∈ lw_all := lw_g (lw_at lw_m4 163 rfl) rfl
theorem q969 : (Jvm.Cond.classLink "java/lang/Integer" (1 : Nat) "java/lang/Integer") ∈ lw_all := lw_g (lw_at lw_m4 165 rfl) rfl
theorem q970 : (Jvm.Cond.instantiable "java/lang/Integer" (1 : Nat)) ∈ lw_all := lw_g (lw_at lw_m4 166 rfl) rfl
theorem q971 : (Jvm.Cond.methodLink "java/lang/Integer" (199 : Nat) ({ cls := "java/lang/Integer", name := "<init>", desc := "(I)V" } : Jvm.MethodName)) ∈ lw_all := lw_g (lw_at lw_m4 167 rfl) rfl
theorem q972 : (Jvm.Cond.instanceMethod ({ cls := "java/lang/Integer", name := "<init>", desc := "(I)V" } : Jvm.MethodName)) ∈ lw_all := lw_g (lw_at lw_m4 168 rfl) rfl
theorem q973 : (Jvm.Cond.code ({ cls := "java/lang/Integer", name := "<init>", desc := "(I)V" } : Jvm.MethodName) prog_29_method_23_code (2 : Nat) (Option.none : Option Jvm.ClassFile.FieldType)) ∈ lw_all := lw_g (lw_at lw_m4 169 rfl) rfl
theorem q974 : (Jvm.Cond.methodLink "java/lang/Integer" (202 : Nat) ({ cls := "java/lang/Number", name := "<init>", desc := "()V" } : Jvm.MethodName)) ∈ lw_all := lw_g (lw_at lw_m4 170 rfl) rfl
theorem q978 : (Jvm.Cond.fieldLink "java/lang/Integer" (205 : Nat) "java/lang/Integer" "value" "I") ∈ lw_all := lw_g (lw_at lw_m4 174 rfl) rfl
theorem q979 : (Jvm.Cond.laysFinal "java/lang/Integer" "java/lang/Integer" "value" "I") ∈ lw_all := lw_g (lw_at lw_m4 175 rfl) rfl
theorem q980 : (Jvm.Cond.soleField "java/lang/Integer" "value") ∈ lw_all := lw_g (lw_at lw_m4 176 rfl) rfl
theorem q981 : (Jvm.Cond.superclass "java/lang/Integer" "java/lang/Number") ∈ lw_all := lw_g (lw_at lw_m4 177 rfl) rfl
theorem q1160 : (Jvm.Cond.instanceMethod ({ cls := "java/lang/Integer", name := "intValue", desc := "()I" } : Jvm.MethodName)) ∈ lw_all := lw_g (lw_at lw_m5 116 rfl) rfl
theorem q1161 : (Jvm.Cond.selects "java/lang/Integer" ({ cls := "java/lang/Integer", name := "intValue", desc := "()I" } : Jvm.MethodName) ({ cls := "java/lang/Integer", name := "intValue", desc := "()I" } : Jvm.MethodName)) ∈ lw_all := lw_g (lw_at lw_m5 117 rfl) rfl
theorem q1162 : (Jvm.Cond.code ({ cls := "java/lang/Integer", name := "intValue", desc := "()I" } : Jvm.MethodName) prog_29_method_27_code (1 : Nat) (Option.some Jvm.ClassFile.FieldType.int)) ∈ lw_all := lw_g (lw_at lw_m5 118 rfl) rfl
theorem q2351 : (Jvm.Cond.castable "java/lang/Integer" "java/lang/Object") ∈ lw_tbl := lw_at lw_m10 107 rfl
theorem in_J21 : ∀ w ∈ wsJ210, w ∈ lw_all := lw_in wsJ210 [979] (by decide +kernel) (by decide +kernel)
/-! java/lang/Object -/
set_option maxRecDepth 100000
def RJ22 : String := "java/lang/Object"
abbrev cJ22_init : ByteArray := object_method_1_code
def yJ22_init : MethodName := ⟨RJ22, "<init>", "()V"⟩
theorem dJ22_init_0 : decode cJ22_init 0 = .ok (.return_, 1) := by decide +kernel
theorem q133 : (Jvm.Cond.instanceMethod ({ cls := "java/lang/Object", name := "<init>", desc := "()V" } : Jvm.MethodName)) ∈ lw_all := lw_g (lw_at lw_m1 49 rfl) rfl
theorem q134 : (Jvm.Cond.code ({ cls := "java/lang/Object", name := "<init>", desc := "()V" } : Jvm.MethodName) object_method_1_code (1 : Nat) (Option.none : Option Jvm.ClassFile.FieldType)) ∈ lw_all := lw_g (lw_at lw_m1 50 rfl) rfl
theorem q734 : (Jvm.Cond.native ({ cls := "java/lang/Object", name := "clone", desc := "()Ljava/lang/Object;" } : Jvm.MethodName)) ∈ lw_all := lw_g (lw_at lw_m3 170 rfl) rfl
theorem q735 : (Jvm.Cond.instanceMethod ({ cls := "java/lang/Object", name := "clone", desc := "()Ljava/lang/Object;" } : Jvm.MethodName)) ∈ lw_all := lw_g (lw_at lw_m3 171 rfl) rfl
theorem q920 : (Jvm.Cond.instanceMethod ({ cls := "java/lang/Object", name := "getClass", desc := "()Ljava/lang/Class;" } : Jvm.MethodName)) ∈ lw_all := lw_g (lw_at lw_m4 116 rfl) rfl
theorem q921 : (Jvm.Cond.sameMethod "java/lang/Object" "java/lang/Object" "getClass" "()Ljava/lang/Class;") ∈ lw_all := lw_g (lw_at lw_m4 117 rfl) rfl
theorem q948 : (Jvm.Cond.native ({ cls := "java/lang/Object", name := "getClass", desc := "()Ljava/lang/Class;" } : Jvm.MethodName)) ∈ lw_all := lw_g (lw_at lw_m4 144 rfl) rfl
theorem q2331 : (Jvm.Cond.initialized "java/lang/Object") ∈ lw_all := lw_g (lw_at lw_m10 87 rfl) rfl
theorem q2363 : (Jvm.Cond.declares ({ cls := "java/lang/Object", name := "getClass", desc := "()Ljava/lang/Class;" } : Jvm.MethodName)) ∈ lw_tbl := lw_at lw_m10 119 rfl
