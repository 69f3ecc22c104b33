/-! QueryHarbor -/
set_option maxRecDepth 100000
def RX1 : String := "QueryHarbor"
def TX1 : u_T := fun k => match k with
  | 0 => ("QueryHarbor", "lines", "[LQueryHarbor$Line;", true)
  | 1 => ("QueryHarbor", "sources", "[LQueryHarbor$Source;", true)
  | 2 => ("QueryHarbor", "isForbidden", "[[Z", true)
  | 3 => ("QueryHarbor", "messages", "Ljava/util/ArrayList;", true)
  | 4 => ("QueryHarbor", "cache", "Ljava/util/ArrayList;", true)
  | 5 => ("QueryHarbor", "seats", "Ljava/util/ArrayList;", true)
  | 6 => ("QueryHarbor", "links", "Ljava/util/ArrayList;", true)
  | 7 => ("QueryHarbor", "conditions", "Ljava/util/ArrayList;", true)
  | 8 => ("QueryHarbor", "outputs", "Ljava/util/ArrayList;", true)
  | 9 => ("QueryHarbor", "bundle", "Ljava/util/ArrayList;", true)
  | 10 => ("QueryHarbor", "limit", "I", false)
  | 11 => ("QueryHarbor", "isGrouping", "Z", false)
  | 12 => ("QueryHarbor", "latest", "LQueryHarbor$Answer;", false)
  | 13 => ("QueryHarbor", "losses", "I", false)
  | 14 => ("QueryHarbor", "moment", "I", false)
  | _ => ("QueryHarbor", "now", "I", false)
def tyX1 : Nat → FieldType := fun k => match k with
  | 0 => .array (.object "QueryHarbor$Line")
  | 1 => .array (.object "QueryHarbor$Source")
  | 2 => .array (.array .boolean)
  | 3 => .object "java/util/ArrayList"
  | 4 => .object "java/util/ArrayList"
  | 5 => .object "java/util/ArrayList"
  | 6 => .object "java/util/ArrayList"
  | 7 => .object "java/util/ArrayList"
  | 8 => .object "java/util/ArrayList"
  | 9 => .object "java/util/ArrayList"
  | 10 => .int
  | 11 => .boolean
  | 12 => .object "QueryHarbor$Answer"
  | 13 => .int
  | 14 => .int
  | _ => .int
abbrev wsX10 : List Cond := u_ws RX1 TX1 16
set_option maxRecDepth 100000 in
theorem nmX1 : ∀ a, a < 16 → ∀ b, b < 16 → a ≠ b → (TX1 a).2.1 ≠ (TX1 b).2.1 := by decide +kernel
set_option maxRecDepth 100000 in
theorem tyX1_ok : ∀ k, k < 16 → parseFieldDescriptor (TX1 k).2.2.1 = some (tyX1 k) := by decide +kernel
abbrev cX1_init : ByteArray := prog_1_method_4_code
def yX1_init : MethodName := ⟨RX1, "<init>", "()V"⟩
def dkwX1_init_9 : List UInt8 := [183, 0, 88, 83, 132, 1, 1, 167, 255, 225, 177]
abbrev dktX1_init_9 : List UInt8 := dkwX1_init_9 ++ []
def dkwX1_init_8 : List UInt8 := [16, 6, 162, 0, 31, 42, 180, 0, 45, 27, 187, 0, 43, 89, 27, 42, 180, 0, 39, 27, 5, 108, 50]
abbrev dktX1_init_8 : List UInt8 := dkwX1_init_8 ++ dktX1_init_9
def dkwX1_init_7 : List UInt8 := [181, 0, 74, 42, 16, 40, 181, 0, 77, 42, 187, 0, 81, 89, 183, 0, 83, 181, 0, 84, 3, 60, 27]
abbrev dktX1_init_7 : List UInt8 := dkwX1_init_7 ++ dktX1_init_8
def dkwX1_init_6 : List UInt8 := [181, 0, 68, 42, 187, 0, 4, 89, 183, 0, 54, 181, 0, 71, 42, 187, 0, 4, 89, 183, 0, 54]
abbrev dktX1_init_6 : List UInt8 := dkwX1_init_6 ++ dktX1_init_7
def dkwX1_init_5 : List UInt8 := [181, 0, 62, 42, 187, 0, 4, 89, 183, 0, 54, 181, 0, 65, 42, 187, 0, 4, 89, 183, 0, 54]
abbrev dktX1_init_5 : List UInt8 := dkwX1_init_5 ++ dktX1_init_6
def dkwX1_init_4 : List UInt8 := [181, 0, 55, 42, 187, 0, 4, 89, 183, 0, 54, 181, 0, 59, 42, 187, 0, 4, 89, 183, 0, 54]
abbrev dktX1_init_4 : List UInt8 := dkwX1_init_4 ++ dktX1_init_5
def dkwX1_init_3 : List UInt8 := [181, 0, 45, 42, 16, 6, 6, 197, 0, 49, 2, 181, 0, 51, 42, 187, 0, 4, 89, 183, 0, 54]
abbrev dktX1_init_3 : List UInt8 := dkwX1_init_3 ++ dktX1_init_4
def dkwX1_init_2 : List UInt8 := [187, 0, 25, 89, 187, 0, 36, 89, 183, 0, 38, 183, 0, 30, 83, 181, 0, 39, 42, 16, 6, 189, 0, 43]
abbrev dktX1_init_2 : List UInt8 := dkwX1_init_2 ++ dktX1_init_3
def dkwX1_init_1 : List UInt8 := [183, 0, 30, 83, 89, 4, 187, 0, 25, 89, 187, 0, 33, 89, 183, 0, 35, 183, 0, 30, 83, 89, 5]
abbrev dktX1_init_1 : List UInt8 := dkwX1_init_1 ++ dktX1_init_2
def dkwX1_init_0 : List UInt8 := [42, 183, 0, 19, 42, 6, 189, 0, 25, 89, 3, 187, 0, 25, 89, 187, 0, 27, 89, 183, 0, 29]
abbrev dktX1_init_0 : List UInt8 := dkwX1_init_0 ++ dktX1_init_1
theorem dksX1_init_0 : cX1_init.data.toList.drop 0 = dktX1_init_0 := by decide +kernel
theorem dksX1_init_1 : cX1_init.data.toList.drop 22 = dktX1_init_1 := dk_seg dksX1_init_0 22 rfl rfl
theorem dksX1_init_2 : cX1_init.data.toList.drop 45 = dktX1_init_2 := dk_seg dksX1_init_1 23 rfl rfl
theorem dksX1_init_3 : cX1_init.data.toList.drop 69 = dktX1_init_3 := dk_seg dksX1_init_2 24 rfl rfl
theorem dksX1_init_4 : cX1_init.data.toList.drop 91 = dktX1_init_4 := dk_seg dksX1_init_3 22 rfl rfl
theorem dksX1_init_5 : cX1_init.data.toList.drop 113 = dktX1_init_5 := dk_seg dksX1_init_4 22 rfl rfl
theorem dksX1_init_6 : cX1_init.data.toList.drop 135 = dktX1_init_6 := dk_seg dksX1_init_5 22 rfl rfl
theorem dksX1_init_7 : cX1_init.data.toList.drop 157 = dktX1_init_7 := dk_seg dksX1_init_6 22 rfl rfl
theorem dksX1_init_8 : cX1_init.data.toList.drop 180 = dktX1_init_8 := dk_seg dksX1_init_7 23 rfl rfl
theorem dksX1_init_9 : cX1_init.data.toList.drop 203 = dktX1_init_9 := dk_seg dksX1_init_8 23 rfl rfl
theorem dX1_init_0 : decode cX1_init 0 = .ok (.aload_n 0, 1) := dk_42 (dk_at dksX1_init_0 0 rfl rfl)
theorem dX1_init_1 : decode cX1_init 1 = .ok (.invokespecial 19, 3) := dk_183 0 19 (dk_at dksX1_init_0 1 rfl rfl)
theorem dX1_init_4 : decode cX1_init 4 = .ok (.aload_n 0, 1) := dk_42 (dk_at dksX1_init_0 4 rfl rfl)
theorem dX1_init_5 : decode cX1_init 5 = .ok (.iconst 3, 1) := dk_6 (dk_at dksX1_init_0 5 rfl rfl)
theorem dX1_init_6 : decode cX1_init 6 = .ok (.anewarray 25, 3) := dk_189 0 25 (dk_at dksX1_init_0 6 rfl rfl)
theorem dX1_init_9 : decode cX1_init 9 = .ok (.dup, 1) := dk_89 (dk_at dksX1_init_0 9 rfl rfl)
theorem dX1_init_10 : decode cX1_init 10 = .ok (.iconst 0, 1) := dk_3 (dk_at dksX1_init_0 10 rfl rfl)
theorem dX1_init_11 : decode cX1_init 11 = .ok (.new 25, 3) := dk_187 0 25 (dk_at dksX1_init_0 11 rfl rfl)
theorem dX1_init_14 : decode cX1_init 14 = .ok (.dup, 1) := dk_89 (dk_at dksX1_init_0 14 rfl rfl)
theorem dX1_init_15 : decode cX1_init 15 = .ok (.new 27, 3) := dk_187 0 27 (dk_at dksX1_init_0 15 rfl rfl)
theorem dX1_init_18 : decode cX1_init 18 = .ok (.dup, 1) := dk_89 (dk_at dksX1_init_0 18 rfl rfl)
theorem dX1_init_19 : decode cX1_init 19 = .ok (.invokespecial 29, 3) := dk_183 0 29 (dk_at dksX1_init_0 19 rfl rfl)
theorem dX1_init_22 : decode cX1_init 22 = .ok (.invokespecial 30, 3) := dk_183 0 30 (dk_at dksX1_init_1 0 rfl rfl)
theorem dX1_init_25 : decode cX1_init 25 = .ok (.aastore, 1) := dk_83 (dk_at dksX1_init_1 3 rfl rfl)
theorem dX1_init_26 : decode cX1_init 26 = .ok (.dup, 1) := dk_89 (dk_at dksX1_init_1 4 rfl rfl)
theorem dX1_init_27 : decode cX1_init 27 = .ok (.iconst 1, 1) := dk_4 (dk_at dksX1_init_1 5 rfl rfl)
theorem dX1_init_28 : decode cX1_init 28 = .ok (.new 25, 3) := dk_187 0 25 (dk_at dksX1_init_1 6 rfl rfl)
theorem dX1_init_31 : decode cX1_init 31 = .ok (.dup, 1) := dk_89 (dk_at dksX1_init_1 9 rfl rfl)
theorem dX1_init_32 : decode cX1_init 32 = .ok (.new 33, 3) := dk_187 0 33 (dk_at dksX1_init_1 10 rfl rfl)
theorem dX1_init_35 : decode cX1_init 35 = .ok (.dup, 1) := dk_89 (dk_at dksX1_init_1 13 rfl rfl)
theorem dX1_init_36 : decode cX1_init 36 = .ok (.invokespecial 35, 3) := dk_183 0 35 (dk_at dksX1_init_1 14 rfl rfl)
theorem dX1_init_39 : decode cX1_init 39 = .ok (.invokespecial 30, 3) := dk_183 0 30 (dk_at dksX1_init_1 17 rfl rfl)
theorem dX1_init_42 : decode cX1_init 42 = .ok (.aastore, 1) := dk_83 (dk_at dksX1_init_1 20 rfl rfl)
theorem dX1_init_43 : decode cX1_init 43 = .ok (.dup, 1) := dk_89 (dk_at dksX1_init_1 21 rfl rfl)
theorem dX1_init_44 : decode cX1_init 44 = .ok (.iconst 2, 1) := dk_5 (dk_at dksX1_init_1 22 rfl rfl)
theorem dX1_init_45 : decode cX1_init 45 = .ok (.new 25, 3) := dk_187 0 25 (dk_at dksX1_init_2 0 rfl rfl)
theorem dX1_init_48 : decode cX1_init 48 = .ok (.dup, 1) := dk_89 (dk_at dksX1_init_2 3 rfl rfl)
theorem dX1_init_49 : decode cX1_init 49 = .ok (.new 36, 3) := dk_187 0 36 (dk_at dksX1_init_2 4 rfl rfl)
theorem dX1_init_52 : decode cX1_init 52 = .ok (.dup, 1) := dk_89 (dk_at dksX1_init_2 7 rfl rfl)
theorem dX1_init_53 : decode cX1_init 53 = .ok (.invokespecial 38, 3) := dk_183 0 38 (dk_at dksX1_init_2 8 rfl rfl)
theorem dX1_init_56 : decode cX1_init 56 = .ok (.invokespecial 30, 3) := dk_183 0 30 (dk_at dksX1_init_2 11 rfl rfl)
theorem dX1_init_59 : decode cX1_init 59 = .ok (.aastore, 1) := dk_83 (dk_at dksX1_init_2 14 rfl rfl)
theorem dX1_init_60 : decode cX1_init 60 = .ok (.putfield 39, 3) := dk_181 0 39 (dk_at dksX1_init_2 15 rfl rfl)
theorem dX1_init_63 : decode cX1_init 63 = .ok (.aload_n 0, 1) := dk_42 (dk_at dksX1_init_2 18 rfl rfl)
theorem dX1_init_64 : decode cX1_init 64 = .ok (.bipush 6, 2) := dk_16 6 (dk_at dksX1_init_2 19 rfl rfl)
theorem dX1_init_66 : decode cX1_init 66 = .ok (.anewarray 43, 3) := dk_189 0 43 (dk_at dksX1_init_2 21 rfl rfl)
theorem dX1_init_69 : decode cX1_init 69 = .ok (.putfield 45, 3) := dk_181 0 45 (dk_at dksX1_init_3 0 rfl rfl)
theorem dX1_init_72 : decode cX1_init 72 = .ok (.aload_n 0, 1) := dk_42 (dk_at dksX1_init_3 3 rfl rfl)
theorem dX1_init_73 : decode cX1_init 73 = .ok (.bipush 6, 2) := dk_16 6 (dk_at dksX1_init_3 4 rfl rfl)
theorem dX1_init_75 : decode cX1_init 75 = .ok (.iconst 3, 1) := dk_6 (dk_at dksX1_init_3 6 rfl rfl)
theorem dX1_init_76 : decode cX1_init 76 = .ok (.multianewarray 49 2, 4) := by decide +kernel
theorem dX1_init_80 : decode cX1_init 80 = .ok (.putfield 51, 3) := dk_181 0 51 (dk_at dksX1_init_3 11 rfl rfl)
theorem dX1_init_83 : decode cX1_init 83 = .ok (.aload_n 0, 1) := dk_42 (dk_at dksX1_init_3 14 rfl rfl)
theorem dX1_init_84 : decode cX1_init 84 = .ok (.new 4, 3) := dk_187 0 4 (dk_at dksX1_init_3 15 rfl rfl)
theorem dX1_init_87 : decode cX1_init 87 = .ok (.dup, 1) := dk_89 (dk_at dksX1_init_3 18 rfl rfl)
theorem dX1_init_88 : decode cX1_init 88 = .ok (.invokespecial 54, 3) := dk_183 0 54 (dk_at dksX1_init_3 19 rfl rfl)
theorem dX1_init_91 : decode cX1_init 91 = .ok (.putfield 55, 3) := dk_181 0 55 (dk_at dksX1_init_4 0 rfl rfl)
theorem dX1_init_94 : decode cX1_init 94 = .ok (.aload_n 0, 1) := dk_42 (dk_at dksX1_init_4 3 rfl rfl)
theorem dX1_init_95 : decode cX1_init 95 = .ok (.new 4, 3) := dk_187 0 4 (dk_at dksX1_init_4 4 rfl rfl)
theorem dX1_init_98 : decode cX1_init 98 = .ok (.dup, 1) := dk_89 (dk_at dksX1_init_4 7 rfl rfl)
theorem dX1_init_99 : decode cX1_init 99 = .ok (.invokespecial 54, 3) := dk_183 0 54 (dk_at dksX1_init_4 8 rfl rfl)
theorem dX1_init_102 : decode cX1_init 102 = .ok (.putfield 59, 3) := dk_181 0 59 (dk_at dksX1_init_4 11 rfl rfl)
theorem dX1_init_105 : decode cX1_init 105 = .ok (.aload_n 0, 1) := dk_42 (dk_at dksX1_init_4 14 rfl rfl)
theorem dX1_init_106 : decode cX1_init 106 = .ok (.new 4, 3) := dk_187 0 4 (dk_at dksX1_init_4 15 rfl rfl)
theorem dX1_init_109 : decode cX1_init 109 = .ok (.dup, 1) := dk_89 (dk_at dksX1_init_4 18 rfl rfl)
theorem dX1_init_110 : decode cX1_init 110 = .ok (.invokespecial 54, 3) := dk_183 0 54 (dk_at dksX1_init_4 19 rfl rfl)
theorem dX1_init_113 : decode cX1_init 113 = .ok (.putfield 62, 3) := dk_181 0 62 (dk_at dksX1_init_5 0 rfl rfl)
theorem dX1_init_116 : decode cX1_init 116 = .ok (.aload_n 0, 1) := dk_42 (dk_at dksX1_init_5 3 rfl rfl)
theorem dX1_init_117 : decode cX1_init 117 = .ok (.new 4, 3) := dk_187 0 4 (dk_at dksX1_init_5 4 rfl rfl)
theorem dX1_init_120 : decode cX1_init 120 = .ok (.dup, 1) := dk_89 (dk_at dksX1_init_5 7 rfl rfl)
theorem dX1_init_121 : decode cX1_init 121 = .ok (.invokespecial 54, 3) := dk_183 0 54 (dk_at dksX1_init_5 8 rfl rfl)
theorem dX1_init_124 : decode cX1_init 124 = .ok (.putfield 65, 3) := dk_181 0 65 (dk_at dksX1_init_5 11 rfl rfl)
theorem dX1_init_127 : decode cX1_init 127 = .ok (.aload_n 0, 1) := dk_42 (dk_at dksX1_init_5 14 rfl rfl)
theorem dX1_init_128 : decode cX1_init 128 = .ok (.new 4, 3) := dk_187 0 4 (dk_at dksX1_init_5 15 rfl rfl)
theorem dX1_init_131 : decode cX1_init 131 = .ok (.dup, 1) := dk_89 (dk_at dksX1_init_5 18 rfl rfl)
theorem dX1_init_132 : decode cX1_init 132 = .ok (.invokespecial 54, 3) := dk_183 0 54 (dk_at dksX1_init_5 19 rfl rfl)
theorem dX1_init_135 : decode cX1_init 135 = .ok (.putfield 68, 3) := dk_181 0 68 (dk_at dksX1_init_6 0 rfl rfl)
theorem dX1_init_138 : decode cX1_init 138 = .ok (.aload_n 0, 1) := dk_42 (dk_at dksX1_init_6 3 rfl rfl)
theorem dX1_init_139 : decode cX1_init 139 = .ok (.new 4, 3) := dk_187 0 4 (dk_at dksX1_init_6 4 rfl rfl)
theorem dX1_init_142 : decode cX1_init 142 = .ok (.dup, 1) := dk_89 (dk_at dksX1_init_6 7 rfl rfl)
theorem dX1_init_143 : decode cX1_init 143 = .ok (.invokespecial 54, 3) := dk_183 0 54 (dk_at dksX1_init_6 8 rfl rfl)
theorem dX1_init_146 : decode cX1_init 146 = .ok (.putfield 71, 3) := dk_181 0 71 (dk_at dksX1_init_6 11 rfl rfl)
theorem dX1_init_149 : decode cX1_init 149 = .ok (.aload_n 0, 1) := dk_42 (dk_at dksX1_init_6 14 rfl rfl)
theorem dX1_init_150 : decode cX1_init 150 = .ok (.new 4, 3) := dk_187 0 4 (dk_at dksX1_init_6 15 rfl rfl)
theorem dX1_init_153 : decode cX1_init 153 = .ok (.dup, 1) := dk_89 (dk_at dksX1_init_6 18 rfl rfl)
theorem dX1_init_154 : decode cX1_init 154 = .ok (.invokespecial 54, 3) := dk_183 0 54 (dk_at dksX1_init_6 19 rfl rfl)
theorem dX1_init_157 : decode cX1_init 157 = .ok (.putfield 74, 3) := dk_181 0 74 (dk_at dksX1_init_7 0 rfl rfl)
theorem dX1_init_160 : decode cX1_init 160 = .ok (.aload_n 0, 1) := dk_42 (dk_at dksX1_init_7 3 rfl rfl)
theorem dX1_init_161 : decode cX1_init 161 = .ok (.bipush 40, 2) := dk_16 40 (dk_at dksX1_init_7 4 rfl rfl)
theorem dX1_init_163 : decode cX1_init 163 = .ok (.putfield 77, 3) := dk_181 0 77 (dk_at dksX1_init_7 6 rfl rfl)
theorem dX1_init_166 : decode cX1_init 166 = .ok (.aload_n 0, 1) := dk_42 (dk_at dksX1_init_7 9 rfl rfl)
theorem dX1_init_167 : decode cX1_init 167 = .ok (.new 81, 3) := dk_187 0 81 (dk_at dksX1_init_7 10 rfl rfl)
theorem dX1_init_170 : decode cX1_init 170 = .ok (.dup, 1) := dk_89 (dk_at dksX1_init_7 13 rfl rfl)
theorem dX1_init_171 : decode cX1_init 171 = .ok (.invokespecial 83, 3) := dk_183 0 83 (dk_at dksX1_init_7 14 rfl rfl)
theorem dX1_init_174 : decode cX1_init 174 = .ok (.putfield 84, 3) := dk_181 0 84 (dk_at dksX1_init_7 17 rfl rfl)
theorem dX1_init_177 : decode cX1_init 177 = .ok (.iconst 0, 1) := dk_3 (dk_at dksX1_init_7 20 rfl rfl)
theorem dX1_init_178 : decode cX1_init 178 = .ok (.istore_n 1, 1) := dk_60 (dk_at dksX1_init_7 21 rfl rfl)
theorem dX1_init_179 : decode cX1_init 179 = .ok (.iload_n 1, 1) := dk_27 (dk_at dksX1_init_7 22 rfl rfl)
theorem dX1_init_180 : decode cX1_init 180 = .ok (.bipush 6, 2) := dk_16 6 (dk_at dksX1_init_8 0 rfl rfl)
theorem dX1_init_182 : decode cX1_init 182 = .ok (.if_icmp .ge 31, 3) := dk_162 0 31 (dk_at dksX1_init_8 2 rfl rfl)
theorem dX1_init_185 : decode cX1_init 185 = .ok (.aload_n 0, 1) := dk_42 (dk_at dksX1_init_8 5 rfl rfl)
theorem dX1_init_186 : decode cX1_init 186 = .ok (.getfield 45, 3) := dk_180 0 45 (dk_at dksX1_init_8 6 rfl rfl)
theorem dX1_init_189 : decode cX1_init 189 = .ok (.iload_n 1, 1) := dk_27 (dk_at dksX1_init_8 9 rfl rfl)
theorem dX1_init_190 : decode cX1_init 190 = .ok (.new 43, 3) := dk_187 0 43 (dk_at dksX1_init_8 10 rfl rfl)
theorem dX1_init_193 : decode cX1_init 193 = .ok (.dup, 1) := dk_89 (dk_at dksX1_init_8 13 rfl rfl)
theorem dX1_init_194 : decode cX1_init 194 = .ok (.iload_n 1, 1) := dk_27 (dk_at dksX1_init_8 14 rfl rfl)
theorem dX1_init_195 : decode cX1_init 195 = .ok (.aload_n 0, 1) := dk_42 (dk_at dksX1_init_8 15 rfl rfl)
theorem dX1_init_196 : decode cX1_init 196 = .ok (.getfield 39, 3) := dk_180 0 39 (dk_at dksX1_init_8 16 rfl rfl)
theorem dX1_init_199 : decode cX1_init 199 = .ok (.iload_n 1, 1) := dk_27 (dk_at dksX1_init_8 19 rfl rfl)
theorem dX1_init_200 : decode cX1_init 200 = .ok (.iconst 2, 1) := dk_5 (dk_at dksX1_init_8 20 rfl rfl)
theorem dX1_init_201 : decode cX1_init 201 = .ok (.idiv, 1) := dk_108 (dk_at dksX1_init_8 21 rfl rfl)
theorem dX1_init_202 : decode cX1_init 202 = .ok (.aaload, 1) := dk_50 (dk_at dksX1_init_8 22 rfl rfl)
theorem dX1_init_203 : decode cX1_init 203 = .ok (.invokespecial 88, 3) := dk_183 0 88 (dk_at dksX1_init_9 0 rfl rfl)
theorem dX1_init_206 : decode cX1_init 206 = .ok (.aastore, 1) := dk_83 (dk_at dksX1_init_9 3 rfl rfl)
theorem dX1_init_207 : decode cX1_init 207 = .ok (.iinc 1 1, 3) := dk_132 1 1 (dk_at dksX1_init_9 4 rfl rfl)
theorem dX1_init_210 : decode cX1_init 210 = .ok (.goto (-31), 3) := dk_167 255 225 (dk_at dksX1_init_9 7 rfl rfl)
theorem dX1_init_213 : decode cX1_init 213 = .ok (.return_, 1) := dk_177 (dk_at dksX1_init_9 10 rfl rfl)
abbrev cX1_losses : ByteArray := prog_1_method_21_code
def yX1_losses : MethodName := ⟨RX1, "losses", "()I"⟩
theorem dX1_losses_0 : decode cX1_losses 0 = .ok (.aload_n 0, 1) := by decide +kernel
theorem dX1_losses_1 : decode cX1_losses 1 = .ok (.getfield 213, 3) := by decide +kernel
theorem dX1_losses_4 : decode cX1_losses 4 = .ok (.ireturn, 1) := by decide +kernel
abbrev cX1_moment : ByteArray := prog_1_method_22_code
def yX1_moment : MethodName := ⟨RX1, "moment", "()I"⟩
theorem dX1_moment_0 : decode cX1_moment 0 = .ok (.aload_n 0, 1) := by decide +kernel
theorem dX1_moment_1 : decode cX1_moment 1 = .ok (.getfield 155, 3) := by decide +kernel
theorem dX1_moment_4 : decode cX1_moment 4 = .ok (.ireturn, 1) := by decide +kernel
abbrev cX1_now : ByteArray := prog_1_method_29_code
def yX1_now : MethodName := ⟨RX1, "now", "()I"⟩
theorem dX1_now_0 : decode cX1_now 0 = .ok (.aload_n 0, 1) := by decide +kernel
theorem dX1_now_1 : decode cX1_now 1 = .ok (.getfield 116, 3) := by decide +kernel
theorem dX1_now_4 : decode cX1_now 4 = .ok (.ireturn, 1) := by decide +kernel
abbrev cX1_clear : ByteArray := prog_1_method_37_code
def yX1_clear : MethodName := ⟨RX1, "clear", "()I"⟩
def dkwX1_clear_2 : List UInt8 := [27, 172]
abbrev dktX1_clear_2 : List UInt8 := dkwX1_clear_2 ++ []
def dkwX1_clear_1 : List UInt8 := [180, 0, 68, 182, 1, 49, 42, 180, 0, 71, 182, 1, 49, 42, 16, 40, 181, 0, 77, 42, 3, 181, 1, 46]
abbrev dktX1_clear_1 : List UInt8 := dkwX1_clear_1 ++ dktX1_clear_2
def dkwX1_clear_0 : List UInt8 := [42, 180, 0, 62, 182, 0, 3, 60, 42, 180, 0, 62, 182, 1, 49, 42, 180, 0, 65, 182, 1, 49, 42]
abbrev dktX1_clear_0 : List UInt8 := dkwX1_clear_0 ++ dktX1_clear_1
theorem dksX1_clear_0 : cX1_clear.data.toList.drop 0 = dktX1_clear_0 := by decide +kernel
theorem dksX1_clear_1 : cX1_clear.data.toList.drop 23 = dktX1_clear_1 := dk_seg dksX1_clear_0 23 rfl rfl
theorem dksX1_clear_2 : cX1_clear.data.toList.drop 47 = dktX1_clear_2 := dk_seg dksX1_clear_1 24 rfl rfl
theorem dX1_clear_0 : decode cX1_clear 0 = .ok (.aload_n 0, 1) := dk_42 (dk_at dksX1_clear_0 0 rfl rfl)
theorem dX1_clear_1 : decode cX1_clear 1 = .ok (.getfield 62, 3) := dk_180 0 62 (dk_at dksX1_clear_0 1 rfl rfl)
theorem dX1_clear_4 : decode cX1_clear 4 = .ok (.invokevirtual 3, 3) := dk_182 0 3 (dk_at dksX1_clear_0 4 rfl rfl)
theorem dX1_clear_7 : decode cX1_clear 7 = .ok (.istore_n 1, 1) := dk_60 (dk_at dksX1_clear_0 7 rfl rfl)
theorem dX1_clear_8 : decode cX1_clear 8 = .ok (.aload_n 0, 1) := dk_42 (dk_at dksX1_clear_0 8 rfl rfl)
theorem dX1_clear_9 : decode cX1_clear 9 = .ok (.getfield 62, 3) := dk_180 0 62 (dk_at dksX1_clear_0 9 rfl rfl)
theorem dX1_clear_12 : decode cX1_clear 12 = .ok (.invokevirtual 305, 3) := dk_182 1 49 (dk_at dksX1_clear_0 12 rfl rfl)
theorem dX1_clear_15 : decode cX1_clear 15 = .ok (.aload_n 0, 1) := dk_42 (dk_at dksX1_clear_0 15 rfl rfl)
theorem dX1_clear_16 : decode cX1_clear 16 = .ok (.getfield 65, 3) := dk_180 0 65 (dk_at dksX1_clear_0 16 rfl rfl)
theorem dX1_clear_19 : decode cX1_clear 19 = .ok (.invokevirtual 305, 3) := dk_182 1 49 (dk_at dksX1_clear_0 19 rfl rfl)
theorem dX1_clear_22 : decode cX1_clear 22 = .ok (.aload_n 0, 1) := dk_42 (dk_at dksX1_clear_0 22 rfl rfl)
theorem dX1_clear_23 : decode cX1_clear 23 = .ok (.getfield 68, 3) := dk_180 0 68 (dk_at dksX1_clear_1 0 rfl rfl)
theorem dX1_clear_26 : decode cX1_clear 26 = .ok (.invokevirtual 305, 3) := dk_182 1 49 (dk_at dksX1_clear_1 3 rfl rfl)
theorem dX1_clear_29 : decode cX1_clear 29 = .ok (.aload_n 0, 1) := dk_42 (dk_at dksX1_clear_1 6 rfl rfl)
theorem dX1_clear_30 : decode cX1_clear 30 = .ok (.getfield 71, 3) := dk_180 0 71 (dk_at dksX1_clear_1 7 rfl rfl)
theorem dX1_clear_33 : decode cX1_clear 33 = .ok (.invokevirtual 305, 3) := dk_182 1 49 (dk_at dksX1_clear_1 10 rfl rfl)
theorem dX1_clear_36 : decode cX1_clear 36 = .ok (.aload_n 0, 1) := dk_42 (dk_at dksX1_clear_1 13 rfl rfl)
theorem dX1_clear_37 : decode cX1_clear 37 = .ok (.bipush 40, 2) := dk_16 40 (dk_at dksX1_clear_1 14 rfl rfl)
theorem dX1_clear_39 : decode cX1_clear 39 = .ok (.putfield 77, 3) := dk_181 0 77 (dk_at dksX1_clear_1 16 rfl rfl)
theorem dX1_clear_42 : decode cX1_clear 42 = .ok (.aload_n 0, 1) := dk_42 (dk_at dksX1_clear_1 19 rfl rfl)
theorem dX1_clear_43 : decode cX1_clear 43 = .ok (.iconst 0, 1) := dk_3 (dk_at dksX1_clear_1 20 rfl rfl)
theorem dX1_clear_44 : decode cX1_clear 44 = .ok (.putfield 302, 3) := dk_181 1 46 (dk_at dksX1_clear_1 21 rfl rfl)
theorem dX1_clear_47 : decode cX1_clear 47 = .ok (.iload_n 1, 1) := dk_27 (dk_at dksX1_clear_2 0 rfl rfl)
theorem dX1_clear_48 : decode cX1_clear 48 = .ok (.ireturn, 1) := dk_172 (dk_at dksX1_clear_2 1 rfl rfl)
abbrev cX1_answers : ByteArray := prog_1_method_57_code
def yX1_answers : MethodName := ⟨RX1, "answers", "()I"⟩
def dkwX1_answers_0 : List UInt8 := [42, 180, 0, 84, 180, 1, 218, 182, 0, 3, 172]
abbrev dktX1_answers_0 : List UInt8 := dkwX1_answers_0 ++ []
theorem dksX1_answers_0 : cX1_answers.data.toList.drop 0 = dktX1_answers_0 := by decide +kernel
theorem dX1_answers_0 : decode cX1_answers 0 = .ok (.aload_n 0, 1) := dk_42 (dk_at dksX1_answers_0 0 rfl rfl)
theorem dX1_answers_1 : decode cX1_answers 1 = .ok (.getfield 84, 3) := dk_180 0 84 (dk_at dksX1_answers_0 1 rfl rfl)
theorem dX1_answers_4 : decode cX1_answers 4 = .ok (.getfield 474, 3) := dk_180 1 218 (dk_at dksX1_answers_0 4 rfl rfl)
theorem dX1_answers_7 : decode cX1_answers 7 = .ok (.invokevirtual 3, 3) := dk_182 0 3 (dk_at dksX1_answers_0 7 rfl rfl)
theorem dX1_answers_10 : decode cX1_answers 10 = .ok (.ireturn, 1) := dk_172 (dk_at dksX1_answers_0 10 rfl rfl)
abbrev cX1_missing : ByteArray := prog_1_method_60_code
def yX1_missing : MethodName := ⟨RX1, "missing", "()I"⟩
def dkwX1_missing_0 : List UInt8 := [42, 180, 0, 84, 180, 1, 237, 172]
abbrev dktX1_missing_0 : List UInt8 := dkwX1_missing_0 ++ []
theorem dksX1_missing_0 : cX1_missing.data.toList.drop 0 = dktX1_missing_0 := by decide +kernel
theorem dX1_missing_0 : decode cX1_missing 0 = .ok (.aload_n 0, 1) := dk_42 (dk_at dksX1_missing_0 0 rfl rfl)
theorem dX1_missing_1 : decode cX1_missing 1 = .ok (.getfield 84, 3) := dk_180 0 84 (dk_at dksX1_missing_0 1 rfl rfl)
theorem dX1_missing_4 : decode cX1_missing 4 = .ok (.getfield 493, 3) := dk_180 1 237 (dk_at dksX1_missing_0 4 rfl rfl)
theorem dX1_missing_7 : decode cX1_missing 7 = .ok (.ireturn, 1) := dk_172 (dk_at dksX1_missing_0 7 rfl rfl)
abbrev cX1_claims : ByteArray := prog_1_method_61_code
def yX1_claims : MethodName := ⟨RX1, "claims", "()I"⟩
def dkwX1_claims_0 : List UInt8 := [42, 180, 0, 84, 180, 1, 249, 172]
abbrev dktX1_claims_0 : List UInt8 := dkwX1_claims_0 ++ []
theorem dksX1_claims_0 : cX1_claims.data.toList.drop 0 = dktX1_claims_0 := by decide +kernel
theorem dX1_claims_0 : decode cX1_claims 0 = .ok (.aload_n 0, 1) := dk_42 (dk_at dksX1_claims_0 0 rfl rfl)
theorem dX1_claims_1 : decode cX1_claims 1 = .ok (.getfield 84, 3) := dk_180 0 84 (dk_at dksX1_claims_0 1 rfl rfl)
theorem dX1_claims_4 : decode cX1_claims 4 = .ok (.getfield 505, 3) := dk_180 1 249 (dk_at dksX1_claims_0 4 rfl rfl)
theorem dX1_claims_7 : decode cX1_claims 7 = .ok (.ireturn, 1) := dk_172 (dk_at dksX1_claims_0 7 rfl rfl)
abbrev cX1_cost : ByteArray := prog_1_method_62_code
def yX1_cost : MethodName := ⟨RX1, "cost", "()I"⟩
def dkwX1_cost_0 : List UInt8 := [42, 180, 0, 84, 180, 1, 68, 172]
abbrev dktX1_cost_0 : List UInt8 := dkwX1_cost_0 ++ []
theorem dksX1_cost_0 : cX1_cost.data.toList.drop 0 = dktX1_cost_0 := by decide +kernel
theorem dX1_cost_0 : decode cX1_cost 0 = .ok (.aload_n 0, 1) := dk_42 (dk_at dksX1_cost_0 0 rfl rfl)
theorem dX1_cost_1 : decode cX1_cost 1 = .ok (.getfield 84, 3) := dk_180 0 84 (dk_at dksX1_cost_0 1 rfl rfl)
theorem dX1_cost_4 : decode cX1_cost 4 = .ok (.getfield 324, 3) := dk_180 1 68 (dk_at dksX1_cost_0 4 rfl rfl)
theorem dX1_cost_7 : decode cX1_cost 7 = .ok (.ireturn, 1) := dk_172 (dk_at dksX1_cost_0 7 rfl rfl)
abbrev cX1_attempts : ByteArray := prog_1_method_63_code
def yX1_attempts : MethodName := ⟨RX1, "attempts", "()I"⟩
def dkwX1_attempts_0 : List UInt8 := [42, 180, 0, 84, 180, 1, 65, 172]
abbrev dktX1_attempts_0 : List UInt8 := dkwX1_attempts_0 ++ []
theorem dksX1_attempts_0 : cX1_attempts.data.toList.drop 0 = dktX1_attempts_0 := by decide +kernel
theorem dX1_attempts_0 : decode cX1_attempts 0 = .ok (.aload_n 0, 1) := dk_42 (dk_at dksX1_attempts_0 0 rfl rfl)
theorem dX1_attempts_1 : decode cX1_attempts 1 = .ok (.getfield 84, 3) := dk_180 0 84 (dk_at dksX1_attempts_0 1 rfl rfl)
theorem dX1_attempts_4 : decode cX1_attempts 4 = .ok (.getfield 321, 3) := dk_180 1 65 (dk_at dksX1_attempts_0 4 rfl rfl)
theorem dX1_attempts_7 : decode cX1_attempts 7 = .ok (.ireturn, 1) := dk_172 (dk_at dksX1_attempts_0 7 rfl rfl)
abbrev cX1_shipped : ByteArray := prog_1_method_64_code
def yX1_shipped : MethodName := ⟨RX1, "shipped", "()I"⟩
def dkwX1_shipped_0 : List UInt8 := [42, 180, 0, 84, 180, 1, 105, 172]
abbrev dktX1_shipped_0 : List UInt8 := dkwX1_shipped_0 ++ []
theorem dksX1_shipped_0 : cX1_shipped.data.toList.drop 0 = dktX1_shipped_0 := by decide +kernel
theorem dX1_shipped_0 : decode cX1_shipped 0 = .ok (.aload_n 0, 1) := dk_42 (dk_at dksX1_shipped_0 0 rfl rfl)
theorem dX1_shipped_1 : decode cX1_shipped 1 = .ok (.getfield 84, 3) := dk_180 0 84 (dk_at dksX1_shipped_0 1 rfl rfl)
theorem dX1_shipped_4 : decode cX1_shipped 4 = .ok (.getfield 361, 3) := dk_180 1 105 (dk_at dksX1_shipped_0 4 rfl rfl)
theorem dX1_shipped_7 : decode cX1_shipped 7 = .ok (.ireturn, 1) := dk_172 (dk_at dksX1_shipped_0 7 rfl rfl)
abbrev cX1_entries : ByteArray := prog_1_method_67_code
def yX1_entries : MethodName := ⟨RX1, "entries", "()I"⟩
def dkwX1_entries_0 : List UInt8 := [42, 180, 0, 59, 182, 0, 3, 172]
abbrev dktX1_entries_0 : List UInt8 := dkwX1_entries_0 ++ []
theorem dksX1_entries_0 : cX1_entries.data.toList.drop 0 = dktX1_entries_0 := by decide +kernel
theorem dX1_entries_0 : decode cX1_entries 0 = .ok (.aload_n 0, 1) := dk_42 (dk_at dksX1_entries_0 0 rfl rfl)
theorem dX1_entries_1 : decode cX1_entries 1 = .ok (.getfield 59, 3) := dk_180 0 59 (dk_at dksX1_entries_0 1 rfl rfl)
theorem dX1_entries_4 : decode cX1_entries 4 = .ok (.invokevirtual 3, 3) := dk_182 0 3 (dk_at dksX1_entries_0 4 rfl rfl)
theorem dX1_entries_7 : decode cX1_entries 7 = .ok (.ireturn, 1) := dk_172 (dk_at dksX1_entries_0 7 rfl rfl)
abbrev cX1_add : ByteArray := prog_1_method_14_code
def yX1_add : MethodName := ⟨RX1, "add", "(IIIII)I"⟩
def dkwX1_add_10 : List UInt8 := [182, 0, 221, 42, 25, 6, 182, 0, 225, 21, 9, 172]
abbrev dktX1_add_10 : List UInt8 := dkwX1_add_10 ++ []
def dkwX1_add_9 : List UInt8 := [25, 6, 89, 180, 0, 204, 4, 96, 181, 0, 204, 25, 6, 187, 0, 216, 89, 21, 9, 25, 7, 183, 0, 218]
abbrev dktX1_add_9 : List UInt8 := dkwX1_add_9 ++ dktX1_add_10
def dkwX1_add_8 : List UInt8 := [167, 255, 200, 25, 8, 185, 0, 196, 1, 0, 153, 0, 7, 28, 167, 0, 8, 25, 6, 180, 0, 204, 54, 9]
abbrev dktX1_add_8 : List UInt8 := dkwX1_add_8 ++ dktX1_add_9
def dkwX1_add_7 : List UInt8 := [159, 0, 7, 4, 167, 0, 4, 3, 96, 181, 0, 213, 25, 7, 21, 9, 21, 10, 79, 132, 9, 1]
abbrev dktX1_add_7 : List UInt8 := dkwX1_add_7 ++ dktX1_add_8
def dkwX1_add_6 : List UInt8 := [25, 7, 21, 9, 46, 185, 0, 210, 3, 0, 54, 10, 42, 89, 180, 0, 213, 21, 10, 25, 7, 21, 9, 46]
abbrev dktX1_add_6 : List UInt8 := dkwX1_add_6 ++ dktX1_add_7
def dkwX1_add_5 : List UInt8 := [162, 0, 7, 4, 167, 0, 4, 3, 184, 0, 207, 3, 54, 9, 21, 9, 7, 162, 0, 56, 25, 8, 21, 9]
abbrev dktX1_add_5 : List UInt8 := dkwX1_add_5 ++ dktX1_add_6
def dkwX1_add_4 : List UInt8 := [153, 0, 16, 25, 6, 28, 182, 0, 200, 2, 160, 0, 20, 167, 0, 13, 25, 6, 180, 0, 204, 16, 60]
abbrev dktX1_add_4 : List UInt8 := dkwX1_add_4 ++ dktX1_add_5
def dkwX1_add_3 : List UInt8 := [167, 255, 230, 25, 6, 180, 0, 193, 182, 0, 3, 16, 12, 162, 0, 40, 25, 8, 185, 0, 196, 1, 0]
abbrev dktX1_add_3 : List UInt8 := dkwX1_add_3 ++ dktX1_add_4
def dkwX1_add_2 : List UInt8 := [162, 0, 26, 25, 8, 21, 9, 25, 7, 21, 9, 46, 185, 0, 187, 3, 0, 184, 0, 103, 132, 9, 1]
abbrev dktX1_add_2 : List UInt8 := dkwX1_add_2 ++ dktX1_add_3
def dkwX1_add_1 : List UInt8 := [6, 21, 5, 79, 58, 7, 25, 6, 180, 0, 140, 180, 0, 183, 58, 8, 3, 54, 9, 21, 9, 7]
abbrev dktX1_add_1 : List UInt8 := dkwX1_add_1 ++ dktX1_add_2
def dkwX1_add_0 : List UInt8 := [42, 27, 182, 0, 179, 58, 6, 7, 188, 10, 89, 3, 28, 79, 89, 4, 29, 79, 89, 5, 21, 4, 79, 89]
abbrev dktX1_add_0 : List UInt8 := dkwX1_add_0 ++ dktX1_add_1
theorem dksX1_add_0 : cX1_add.data.toList.drop 0 = dktX1_add_0 := by decide +kernel
theorem dksX1_add_1 : cX1_add.data.toList.drop 24 = dktX1_add_1 := dk_seg dksX1_add_0 24 rfl rfl
theorem dksX1_add_2 : cX1_add.data.toList.drop 46 = dktX1_add_2 := dk_seg dksX1_add_1 22 rfl rfl
theorem dksX1_add_3 : cX1_add.data.toList.drop 69 = dktX1_add_3 := dk_seg dksX1_add_2 23 rfl rfl
theorem dksX1_add_4 : cX1_add.data.toList.drop 92 = dktX1_add_4 := dk_seg dksX1_add_3 23 rfl rfl
theorem dksX1_add_5 : cX1_add.data.toList.drop 115 = dktX1_add_5 := dk_seg dksX1_add_4 23 rfl rfl
theorem dksX1_add_6 : cX1_add.data.toList.drop 139 = dktX1_add_6 := dk_seg dksX1_add_5 24 rfl rfl
theorem dksX1_add_7 : cX1_add.data.toList.drop 163 = dktX1_add_7 := dk_seg dksX1_add_6 24 rfl rfl
theorem dksX1_add_8 : cX1_add.data.toList.drop 185 = dktX1_add_8 := dk_seg dksX1_add_7 22 rfl rfl
theorem dksX1_add_9 : cX1_add.data.toList.drop 209 = dktX1_add_9 := dk_seg dksX1_add_8 24 rfl rfl
theorem dksX1_add_10 : cX1_add.data.toList.drop 233 = dktX1_add_10 := dk_seg dksX1_add_9 24 rfl rfl
theorem dX1_add_0 : decode cX1_add 0 = .ok (.aload_n 0, 1) := dk_42 (dk_at dksX1_add_0 0 rfl rfl)
theorem dX1_add_1 : decode cX1_add 1 = .ok (.iload_n 1, 1) := dk_27 (dk_at dksX1_add_0 1 rfl rfl)
theorem dX1_add_2 : decode cX1_add 2 = .ok (.invokevirtual 179, 3) := dk_182 0 179 (dk_at dksX1_add_0 2 rfl rfl)
theorem dX1_add_5 : decode cX1_add 5 = .ok (.astore 6, 2) := dk_58 6 (dk_at dksX1_add_0 5 rfl rfl)
theorem dX1_add_7 : decode cX1_add 7 = .ok (.iconst 4, 1) := dk_7 (dk_at dksX1_add_0 7 rfl rfl)
theorem dX1_add_8 : decode cX1_add 8 = .ok (.newarray .int, 2) := dk_188_10 (dk_at dksX1_add_0 8 rfl rfl)
theorem dX1_add_10 : decode cX1_add 10 = .ok (.dup, 1) := dk_89 (dk_at dksX1_add_0 10 rfl rfl)
theorem dX1_add_11 : decode cX1_add 11 = .ok (.iconst 0, 1) := dk_3 (dk_at dksX1_add_0 11 rfl rfl)
theorem dX1_add_12 : decode cX1_add 12 = .ok (.iload_n 2, 1) := dk_28 (dk_at dksX1_add_0 12 rfl rfl)
theorem dX1_add_13 : decode cX1_add 13 = .ok (.iastore, 1) := dk_79 (dk_at dksX1_add_0 13 rfl rfl)
theorem dX1_add_14 : decode cX1_add 14 = .ok (.dup, 1) := dk_89 (dk_at dksX1_add_0 14 rfl rfl)
theorem dX1_add_15 : decode cX1_add 15 = .ok (.iconst 1, 1) := dk_4 (dk_at dksX1_add_0 15 rfl rfl)
theorem dX1_add_16 : decode cX1_add 16 = .ok (.iload_n 3, 1) := dk_29 (dk_at dksX1_add_0 16 rfl rfl)
theorem dX1_add_17 : decode cX1_add 17 = .ok (.iastore, 1) := dk_79 (dk_at dksX1_add_0 17 rfl rfl)
theorem dX1_add_18 : decode cX1_add 18 = .ok (.dup, 1) := dk_89 (dk_at dksX1_add_0 18 rfl rfl)
theorem dX1_add_19 : decode cX1_add 19 = .ok (.iconst 2, 1) := dk_5 (dk_at dksX1_add_0 19 rfl rfl)
theorem dX1_add_20 : decode cX1_add 20 = .ok (.iload 4, 2) := dk_21 4 (dk_at dksX1_add_0 20 rfl rfl)
theorem dX1_add_22 : decode cX1_add 22 = .ok (.iastore, 1) := dk_79 (dk_at dksX1_add_0 22 rfl rfl)
theorem dX1_add_23 : decode cX1_add 23 = .ok (.dup, 1) := dk_89 (dk_at dksX1_add_0 23 rfl rfl)
theorem dX1_add_24 : decode cX1_add 24 = .ok (.iconst 3, 1) := dk_6 (dk_at dksX1_add_1 0 rfl rfl)
theorem dX1_add_25 : decode cX1_add 25 = .ok (.iload 5, 2) := dk_21 5 (dk_at dksX1_add_1 1 rfl rfl)
theorem dX1_add_27 : decode cX1_add 27 = .ok (.iastore, 1) := dk_79 (dk_at dksX1_add_1 3 rfl rfl)
theorem dX1_add_28 : decode cX1_add 28 = .ok (.astore 7, 2) := dk_58 7 (dk_at dksX1_add_1 4 rfl rfl)
theorem dX1_add_30 : decode cX1_add 30 = .ok (.aload 6, 2) := dk_25 6 (dk_at dksX1_add_1 6 rfl rfl)
theorem dX1_add_32 : decode cX1_add 32 = .ok (.getfield 140, 3) := dk_180 0 140 (dk_at dksX1_add_1 8 rfl rfl)
theorem dX1_add_35 : decode cX1_add 35 = .ok (.getfield 183, 3) := dk_180 0 183 (dk_at dksX1_add_1 11 rfl rfl)
theorem dX1_add_38 : decode cX1_add 38 = .ok (.astore 8, 2) := dk_58 8 (dk_at dksX1_add_1 14 rfl rfl)
theorem dX1_add_40 : decode cX1_add 40 = .ok (.iconst 0, 1) := dk_3 (dk_at dksX1_add_1 16 rfl rfl)
theorem dX1_add_41 : decode cX1_add 41 = .ok (.istore 9, 2) := dk_54 9 (dk_at dksX1_add_1 17 rfl rfl)
theorem dX1_add_43 : decode cX1_add 43 = .ok (.iload 9, 2) := dk_21 9 (dk_at dksX1_add_1 19 rfl rfl)
theorem dX1_add_45 : decode cX1_add 45 = .ok (.iconst 4, 1) := dk_7 (dk_at dksX1_add_1 21 rfl rfl)
theorem dX1_add_46 : decode cX1_add 46 = .ok (.if_icmp .ge 26, 3) := dk_162 0 26 (dk_at dksX1_add_2 0 rfl rfl)
theorem dX1_add_49 : decode cX1_add 49 = .ok (.aload 8, 2) := dk_25 8 (dk_at dksX1_add_2 3 rfl rfl)
theorem dX1_add_51 : decode cX1_add 51 = .ok (.iload 9, 2) := dk_21 9 (dk_at dksX1_add_2 5 rfl rfl)
theorem dX1_add_53 : decode cX1_add 53 = .ok (.aload 7, 2) := dk_25 7 (dk_at dksX1_add_2 7 rfl rfl)
theorem dX1_add_55 : decode cX1_add 55 = .ok (.iload 9, 2) := dk_21 9 (dk_at dksX1_add_2 9 rfl rfl)
theorem dX1_add_57 : decode cX1_add 57 = .ok (.iaload, 1) := dk_46 (dk_at dksX1_add_2 11 rfl rfl)
theorem dX1_add_58 : decode cX1_add 58 = .ok (.invokeinterface 187 3, 5) := by decide +kernel
theorem dX1_add_63 : decode cX1_add 63 = .ok (.invokestatic 103, 3) := dk_184 0 103 (dk_at dksX1_add_2 17 rfl rfl)
theorem dX1_add_66 : decode cX1_add 66 = .ok (.iinc 9 1, 3) := dk_132 9 1 (dk_at dksX1_add_2 20 rfl rfl)
theorem dX1_add_69 : decode cX1_add 69 = .ok (.goto (-26), 3) := dk_167 255 230 (dk_at dksX1_add_3 0 rfl rfl)
theorem dX1_add_72 : decode cX1_add 72 = .ok (.aload 6, 2) := dk_25 6 (dk_at dksX1_add_3 3 rfl rfl)
theorem dX1_add_74 : decode cX1_add 74 = .ok (.getfield 193, 3) := dk_180 0 193 (dk_at dksX1_add_3 5 rfl rfl)
theorem dX1_add_77 : decode cX1_add 77 = .ok (.invokevirtual 3, 3) := dk_182 0 3 (dk_at dksX1_add_3 8 rfl rfl)
theorem dX1_add_80 : decode cX1_add 80 = .ok (.bipush 12, 2) := dk_16 12 (dk_at dksX1_add_3 11 rfl rfl)
theorem dX1_add_82 : decode cX1_add 82 = .ok (.if_icmp .ge 40, 3) := dk_162 0 40 (dk_at dksX1_add_3 13 rfl rfl)
theorem dX1_add_85 : decode cX1_add 85 = .ok (.aload 8, 2) := dk_25 8 (dk_at dksX1_add_3 16 rfl rfl)
theorem dX1_add_87 : decode cX1_add 87 = .ok (.invokeinterface 196 1, 5) := by decide +kernel
theorem dX1_add_92 : decode cX1_add 92 = .ok (.ifCond .eq 16, 3) := dk_153 0 16 (dk_at dksX1_add_4 0 rfl rfl)
theorem dX1_add_95 : decode cX1_add 95 = .ok (.aload 6, 2) := dk_25 6 (dk_at dksX1_add_4 3 rfl rfl)
theorem dX1_add_97 : decode cX1_add 97 = .ok (.iload_n 2, 1) := dk_28 (dk_at dksX1_add_4 5 rfl rfl)
theorem dX1_add_98 : decode cX1_add 98 = .ok (.invokevirtual 200, 3) := dk_182 0 200 (dk_at dksX1_add_4 6 rfl rfl)
theorem dX1_add_101 : decode cX1_add 101 = .ok (.iconst (-1), 1) := dk_2 (dk_at dksX1_add_4 9 rfl rfl)
theorem dX1_add_102 : decode cX1_add 102 = .ok (.if_icmp .ne 20, 3) := dk_160 0 20 (dk_at dksX1_add_4 10 rfl rfl)
theorem dX1_add_105 : decode cX1_add 105 = .ok (.goto 13, 3) := dk_167 0 13 (dk_at dksX1_add_4 13 rfl rfl)
theorem dX1_add_108 : decode cX1_add 108 = .ok (.aload 6, 2) := dk_25 6 (dk_at dksX1_add_4 16 rfl rfl)
theorem dX1_add_110 : decode cX1_add 110 = .ok (.getfield 204, 3) := dk_180 0 204 (dk_at dksX1_add_4 18 rfl rfl)
theorem dX1_add_113 : decode cX1_add 113 = .ok (.bipush 60, 2) := dk_16 60 (dk_at dksX1_add_4 21 rfl rfl)
theorem dX1_add_115 : decode cX1_add 115 = .ok (.if_icmp .ge 7, 3) := dk_162 0 7 (dk_at dksX1_add_5 0 rfl rfl)
theorem dX1_add_118 : decode cX1_add 118 = .ok (.iconst 1, 1) := dk_4 (dk_at dksX1_add_5 3 rfl rfl)
theorem dX1_add_119 : decode cX1_add 119 = .ok (.goto 4, 3) := dk_167 0 4 (dk_at dksX1_add_5 4 rfl rfl)
theorem dX1_add_122 : decode cX1_add 122 = .ok (.iconst 0, 1) := dk_3 (dk_at dksX1_add_5 7 rfl rfl)
theorem dX1_add_123 : decode cX1_add 123 = .ok (.invokestatic 207, 3) := dk_184 0 207 (dk_at dksX1_add_5 8 rfl rfl)
theorem dX1_add_126 : decode cX1_add 126 = .ok (.iconst 0, 1) := dk_3 (dk_at dksX1_add_5 11 rfl rfl)
theorem dX1_add_127 : decode cX1_add 127 = .ok (.istore 9, 2) := dk_54 9 (dk_at dksX1_add_5 12 rfl rfl)
theorem dX1_add_129 : decode cX1_add 129 = .ok (.iload 9, 2) := dk_21 9 (dk_at dksX1_add_5 14 rfl rfl)
theorem dX1_add_131 : decode cX1_add 131 = .ok (.iconst 4, 1) := dk_7 (dk_at dksX1_add_5 16 rfl rfl)
theorem dX1_add_132 : decode cX1_add 132 = .ok (.if_icmp .ge 56, 3) := dk_162 0 56 (dk_at dksX1_add_5 17 rfl rfl)
theorem dX1_add_135 : decode cX1_add 135 = .ok (.aload 8, 2) := dk_25 8 (dk_at dksX1_add_5 20 rfl rfl)
theorem dX1_add_137 : decode cX1_add 137 = .ok (.iload 9, 2) := dk_21 9 (dk_at dksX1_add_5 22 rfl rfl)
theorem dX1_add_139 : decode cX1_add 139 = .ok (.aload 7, 2) := dk_25 7 (dk_at dksX1_add_6 0 rfl rfl)
theorem dX1_add_141 : decode cX1_add 141 = .ok (.iload 9, 2) := dk_21 9 (dk_at dksX1_add_6 2 rfl rfl)
theorem dX1_add_143 : decode cX1_add 143 = .ok (.iaload, 1) := dk_46 (dk_at dksX1_add_6 4 rfl rfl)
theorem dX1_add_144 : decode cX1_add 144 = .ok (.invokeinterface 210 3, 5) := by decide +kernel
theorem dX1_add_149 : decode cX1_add 149 = .ok (.istore 10, 2) := dk_54 10 (dk_at dksX1_add_6 10 rfl rfl)
theorem dX1_add_151 : decode cX1_add 151 = .ok (.aload_n 0, 1) := dk_42 (dk_at dksX1_add_6 12 rfl rfl)
theorem dX1_add_152 : decode cX1_add 152 = .ok (.dup, 1) := dk_89 (dk_at dksX1_add_6 13 rfl rfl)
theorem dX1_add_153 : decode cX1_add 153 = .ok (.getfield 213, 3) := dk_180 0 213 (dk_at dksX1_add_6 14 rfl rfl)
theorem dX1_add_156 : decode cX1_add 156 = .ok (.iload 10, 2) := dk_21 10 (dk_at dksX1_add_6 17 rfl rfl)
theorem dX1_add_158 : decode cX1_add 158 = .ok (.aload 7, 2) := dk_25 7 (dk_at dksX1_add_6 19 rfl rfl)
theorem dX1_add_160 : decode cX1_add 160 = .ok (.iload 9, 2) := dk_21 9 (dk_at dksX1_add_6 21 rfl rfl)
theorem dX1_add_162 : decode cX1_add 162 = .ok (.iaload, 1) := dk_46 (dk_at dksX1_add_6 23 rfl rfl)
theorem dX1_add_163 : decode cX1_add 163 = .ok (.if_icmp .eq 7, 3) := dk_159 0 7 (dk_at dksX1_add_7 0 rfl rfl)
theorem dX1_add_166 : decode cX1_add 166 = .ok (.iconst 1, 1) := dk_4 (dk_at dksX1_add_7 3 rfl rfl)
theorem dX1_add_167 : decode cX1_add 167 = .ok (.goto 4, 3) := dk_167 0 4 (dk_at dksX1_add_7 4 rfl rfl)
theorem dX1_add_170 : decode cX1_add 170 = .ok (.iconst 0, 1) := dk_3 (dk_at dksX1_add_7 7 rfl rfl)
theorem dX1_add_171 : decode cX1_add 171 = .ok (.iadd, 1) := dk_96 (dk_at dksX1_add_7 8 rfl rfl)
theorem dX1_add_172 : decode cX1_add 172 = .ok (.putfield 213, 3) := dk_181 0 213 (dk_at dksX1_add_7 9 rfl rfl)
theorem dX1_add_175 : decode cX1_add 175 = .ok (.aload 7, 2) := dk_25 7 (dk_at dksX1_add_7 12 rfl rfl)
theorem dX1_add_177 : decode cX1_add 177 = .ok (.iload 9, 2) := dk_21 9 (dk_at dksX1_add_7 14 rfl rfl)
theorem dX1_add_179 : decode cX1_add 179 = .ok (.iload 10, 2) := dk_21 10 (dk_at dksX1_add_7 16 rfl rfl)
theorem dX1_add_181 : decode cX1_add 181 = .ok (.iastore, 1) := dk_79 (dk_at dksX1_add_7 18 rfl rfl)
theorem dX1_add_182 : decode cX1_add 182 = .ok (.iinc 9 1, 3) := dk_132 9 1 (dk_at dksX1_add_7 19 rfl rfl)
theorem dX1_add_185 : decode cX1_add 185 = .ok (.goto (-56), 3) := dk_167 255 200 (dk_at dksX1_add_8 0 rfl rfl)
theorem dX1_add_188 : decode cX1_add 188 = .ok (.aload 8, 2) := dk_25 8 (dk_at dksX1_add_8 3 rfl rfl)
theorem dX1_add_190 : decode cX1_add 190 = .ok (.invokeinterface 196 1, 5) := by decide +kernel
theorem dX1_add_195 : decode cX1_add 195 = .ok (.ifCond .eq 7, 3) := dk_153 0 7 (dk_at dksX1_add_8 10 rfl rfl)
theorem dX1_add_198 : decode cX1_add 198 = .ok (.iload_n 2, 1) := dk_28 (dk_at dksX1_add_8 13 rfl rfl)
theorem dX1_add_199 : decode cX1_add 199 = .ok (.goto 8, 3) := dk_167 0 8 (dk_at dksX1_add_8 14 rfl rfl)
theorem dX1_add_202 : decode cX1_add 202 = .ok (.aload 6, 2) := dk_25 6 (dk_at dksX1_add_8 17 rfl rfl)
theorem dX1_add_204 : decode cX1_add 204 = .ok (.getfield 204, 3) := dk_180 0 204 (dk_at dksX1_add_8 19 rfl rfl)
theorem dX1_add_207 : decode cX1_add 207 = .ok (.istore 9, 2) := dk_54 9 (dk_at dksX1_add_8 22 rfl rfl)
theorem dX1_add_209 : decode cX1_add 209 = .ok (.aload 6, 2) := dk_25 6 (dk_at dksX1_add_9 0 rfl rfl)
theorem dX1_add_211 : decode cX1_add 211 = .ok (.dup, 1) := dk_89 (dk_at dksX1_add_9 2 rfl rfl)
theorem dX1_add_212 : decode cX1_add 212 = .ok (.getfield 204, 3) := dk_180 0 204 (dk_at dksX1_add_9 3 rfl rfl)
theorem dX1_add_215 : decode cX1_add 215 = .ok (.iconst 1, 1) := dk_4 (dk_at dksX1_add_9 6 rfl rfl)
theorem dX1_add_216 : decode cX1_add 216 = .ok (.iadd, 1) := dk_96 (dk_at dksX1_add_9 7 rfl rfl)
theorem dX1_add_217 : decode cX1_add 217 = .ok (.putfield 204, 3) := dk_181 0 204 (dk_at dksX1_add_9 8 rfl rfl)
theorem dX1_add_220 : decode cX1_add 220 = .ok (.aload 6, 2) := dk_25 6 (dk_at dksX1_add_9 11 rfl rfl)
theorem dX1_add_222 : decode cX1_add 222 = .ok (.new 216, 3) := dk_187 0 216 (dk_at dksX1_add_9 13 rfl rfl)
theorem dX1_add_225 : decode cX1_add 225 = .ok (.dup, 1) := dk_89 (dk_at dksX1_add_9 16 rfl rfl)
theorem dX1_add_226 : decode cX1_add 226 = .ok (.iload 9, 2) := dk_21 9 (dk_at dksX1_add_9 17 rfl rfl)
theorem dX1_add_228 : decode cX1_add 228 = .ok (.aload 7, 2) := dk_25 7 (dk_at dksX1_add_9 19 rfl rfl)
theorem dX1_add_230 : decode cX1_add 230 = .ok (.invokespecial 218, 3) := dk_183 0 218 (dk_at dksX1_add_9 21 rfl rfl)
theorem dX1_add_233 : decode cX1_add 233 = .ok (.invokevirtual 221, 3) := dk_182 0 221 (dk_at dksX1_add_10 0 rfl rfl)
theorem dX1_add_236 : decode cX1_add 236 = .ok (.aload_n 0, 1) := dk_42 (dk_at dksX1_add_10 3 rfl rfl)
theorem dX1_add_237 : decode cX1_add 237 = .ok (.aload 6, 2) := dk_25 6 (dk_at dksX1_add_10 4 rfl rfl)
theorem dX1_add_239 : decode cX1_add 239 = .ok (.invokevirtual 225, 3) := dk_182 0 225 (dk_at dksX1_add_10 6 rfl rfl)
theorem dX1_add_242 : decode cX1_add 242 = .ok (.iload 9, 2) := dk_21 9 (dk_at dksX1_add_10 9 rfl rfl)
theorem dX1_add_244 : decode cX1_add 244 = .ok (.ireturn, 1) := dk_172 (dk_at dksX1_add_10 11 rfl rfl)
abbrev cX1_sourceAt : ByteArray := prog_1_method_9_code
def yX1_sourceAt : MethodName := ⟨RX1, "sourceAt", "(I)LQueryHarbor$Source;"⟩
def dkwX1_sourceAt_0 : List UInt8 := [42, 180, 0, 45, 27, 16, 6, 184, 0, 112, 50, 176]
abbrev dktX1_sourceAt_0 : List UInt8 := dkwX1_sourceAt_0 ++ []
theorem dksX1_sourceAt_0 : cX1_sourceAt.data.toList.drop 0 = dktX1_sourceAt_0 := by decide +kernel
theorem dX1_sourceAt_0 : decode cX1_sourceAt 0 = .ok (.aload_n 0, 1) := dk_42 (dk_at dksX1_sourceAt_0 0 rfl rfl)
theorem dX1_sourceAt_1 : decode cX1_sourceAt 1 = .ok (.getfield 45, 3) := dk_180 0 45 (dk_at dksX1_sourceAt_0 1 rfl rfl)
theorem dX1_sourceAt_4 : decode cX1_sourceAt 4 = .ok (.iload_n 1, 1) := dk_27 (dk_at dksX1_sourceAt_0 4 rfl rfl)
theorem dX1_sourceAt_5 : decode cX1_sourceAt 5 = .ok (.bipush 6, 2) := dk_16 6 (dk_at dksX1_sourceAt_0 5 rfl rfl)
theorem dX1_sourceAt_7 : decode cX1_sourceAt 7 = .ok (.invokestatic 112, 3) := dk_184 0 112 (dk_at dksX1_sourceAt_0 7 rfl rfl)
theorem dX1_sourceAt_10 : decode cX1_sourceAt 10 = .ok (.aaload, 1) := dk_50 (dk_at dksX1_sourceAt_0 10 rfl rfl)
theorem dX1_sourceAt_11 : decode cX1_sourceAt 11 = .ok (.areturn, 1) := dk_176 (dk_at dksX1_sourceAt_0 11 rfl rfl)
abbrev cX1_known : ByteArray := prog_1_method_5_code
def yX1_known : MethodName := ⟨RX1, "known", "(II)I"⟩
def dkwX1_known_0 : List UInt8 := [26, 155, 0, 8, 26, 27, 161, 0, 13, 187, 0, 91, 89, 18, 93, 183, 0, 95, 191, 26, 172]
abbrev dktX1_known_0 : List UInt8 := dkwX1_known_0 ++ []
theorem dksX1_known_0 : cX1_known.data.toList.drop 0 = dktX1_known_0 := by decide +kernel
theorem dX1_known_0 : decode cX1_known 0 = .ok (.iload_n 0, 1) := dk_26 (dk_at dksX1_known_0 0 rfl rfl)
theorem dX1_known_1 : decode cX1_known 1 = .ok (.ifCond .lt 8, 3) := dk_155 0 8 (dk_at dksX1_known_0 1 rfl rfl)
theorem dX1_known_4 : decode cX1_known 4 = .ok (.iload_n 0, 1) := dk_26 (dk_at dksX1_known_0 4 rfl rfl)
theorem dX1_known_5 : decode cX1_known 5 = .ok (.iload_n 1, 1) := dk_27 (dk_at dksX1_known_0 5 rfl rfl)
theorem dX1_known_6 : decode cX1_known 6 = .ok (.if_icmp .lt 13, 3) := dk_161 0 13 (dk_at dksX1_known_0 6 rfl rfl)
theorem dX1_known_9 : decode cX1_known 9 = .ok (.new 91, 3) := dk_187 0 91 (dk_at dksX1_known_0 9 rfl rfl)
theorem dX1_known_12 : decode cX1_known 12 = .ok (.dup, 1) := dk_89 (dk_at dksX1_known_0 12 rfl rfl)
theorem dX1_known_13 : decode cX1_known 13 = .ok (.ldc 93, 2) := dk_18 93 (dk_at dksX1_known_0 13 rfl rfl)
theorem dX1_known_15 : decode cX1_known 15 = .ok (.invokespecial 95, 3) := dk_183 0 95 (dk_at dksX1_known_0 15 rfl rfl)
theorem dX1_known_18 : decode cX1_known 18 = .ok (.athrow, 1) := dk_191 (dk_at dksX1_known_0 18 rfl rfl)
theorem dX1_known_19 : decode cX1_known 19 = .ok (.iload_n 0, 1) := dk_26 (dk_at dksX1_known_0 19 rfl rfl)
theorem dX1_known_20 : decode cX1_known 20 = .ok (.ireturn, 1) := dk_172 (dk_at dksX1_known_0 20 rfl rfl)
abbrev cX1_isKey : ByteArray := prog_1_method_2_code
def yX1_isKey : MethodName := ⟨RX1, "isKey", "(I)Z"⟩
def dkwX1_isKey_0 : List UInt8 := [26, 155, 0, 13, 26, 16, 99, 163, 0, 7, 4, 167, 0, 4, 3, 172]
abbrev dktX1_isKey_0 : List UInt8 := dkwX1_isKey_0 ++ []
theorem dksX1_isKey_0 : cX1_isKey.data.toList.drop 0 = dktX1_isKey_0 := by decide +kernel
theorem dX1_isKey_0 : decode cX1_isKey 0 = .ok (.iload_n 0, 1) := dk_26 (dk_at dksX1_isKey_0 0 rfl rfl)
theorem dX1_isKey_1 : decode cX1_isKey 1 = .ok (.ifCond .lt 13, 3) := dk_155 0 13 (dk_at dksX1_isKey_0 1 rfl rfl)
theorem dX1_isKey_4 : decode cX1_isKey 4 = .ok (.iload_n 0, 1) := dk_26 (dk_at dksX1_isKey_0 4 rfl rfl)
theorem dX1_isKey_5 : decode cX1_isKey 5 = .ok (.bipush 99, 2) := dk_16 99 (dk_at dksX1_isKey_0 5 rfl rfl)
theorem dX1_isKey_7 : decode cX1_isKey 7 = .ok (.if_icmp .gt 7, 3) := dk_163 0 7 (dk_at dksX1_isKey_0 7 rfl rfl)
theorem dX1_isKey_10 : decode cX1_isKey 10 = .ok (.iconst 1, 1) := dk_4 (dk_at dksX1_isKey_0 10 rfl rfl)
theorem dX1_isKey_11 : decode cX1_isKey 11 = .ok (.goto 4, 3) := dk_167 0 4 (dk_at dksX1_isKey_0 11 rfl rfl)
theorem dX1_isKey_14 : decode cX1_isKey 14 = .ok (.iconst 0, 1) := dk_3 (dk_at dksX1_isKey_0 14 rfl rfl)
theorem dX1_isKey_15 : decode cX1_isKey 15 = .ok (.ireturn, 1) := dk_172 (dk_at dksX1_isKey_0 15 rfl rfl)
abbrev cX1_isNumber : ByteArray := prog_1_method_1_code
def yX1_isNumber : MethodName := ⟨RX1, "isNumber", "(I)Z"⟩
def dkwX1_isNumber_0 : List UInt8 := [26, 17, 252, 25, 161, 0, 14, 26, 17, 3, 231, 163, 0, 7, 4, 167, 0, 4, 3, 172]
abbrev dktX1_isNumber_0 : List UInt8 := dkwX1_isNumber_0 ++ []
theorem dksX1_isNumber_0 : cX1_isNumber.data.toList.drop 0 = dktX1_isNumber_0 := by decide +kernel
theorem dX1_isNumber_0 : decode cX1_isNumber 0 = .ok (.iload_n 0, 1) := dk_26 (dk_at dksX1_isNumber_0 0 rfl rfl)
theorem dX1_isNumber_1 : decode cX1_isNumber 1 = .ok (.sipush (-999), 3) := dk_17 252 25 (dk_at dksX1_isNumber_0 1 rfl rfl)
theorem dX1_isNumber_4 : decode cX1_isNumber 4 = .ok (.if_icmp .lt 14, 3) := dk_161 0 14 (dk_at dksX1_isNumber_0 4 rfl rfl)
theorem dX1_isNumber_7 : decode cX1_isNumber 7 = .ok (.iload_n 0, 1) := dk_26 (dk_at dksX1_isNumber_0 7 rfl rfl)
theorem dX1_isNumber_8 : decode cX1_isNumber 8 = .ok (.sipush 999, 3) := dk_17 3 231 (dk_at dksX1_isNumber_0 8 rfl rfl)
theorem dX1_isNumber_11 : decode cX1_isNumber 11 = .ok (.if_icmp .gt 7, 3) := dk_163 0 7 (dk_at dksX1_isNumber_0 11 rfl rfl)
theorem dX1_isNumber_14 : decode cX1_isNumber 14 = .ok (.iconst 1, 1) := dk_4 (dk_at dksX1_isNumber_0 14 rfl rfl)
theorem dX1_isNumber_15 : decode cX1_isNumber 15 = .ok (.goto 4, 3) := dk_167 0 4 (dk_at dksX1_isNumber_0 15 rfl rfl)
theorem dX1_isNumber_18 : decode cX1_isNumber 18 = .ok (.iconst 0, 1) := dk_3 (dk_at dksX1_isNumber_0 18 rfl rfl)
theorem dX1_isNumber_19 : decode cX1_isNumber 19 = .ok (.ireturn, 1) := dk_172 (dk_at dksX1_isNumber_0 19 rfl rfl)
abbrev cX1_fit : ByteArray := prog_1_method_6_code
def yX1_fit : MethodName := ⟨RX1, "fit", "(Z)V"⟩
def dkwX1_fit_0 : List UInt8 := [26, 154, 0, 13, 187, 0, 98, 89, 18, 100, 183, 0, 102, 191, 177]
abbrev dktX1_fit_0 : List UInt8 := dkwX1_fit_0 ++ []
theorem dksX1_fit_0 : cX1_fit.data.toList.drop 0 = dktX1_fit_0 := by decide +kernel
theorem dX1_fit_0 : decode cX1_fit 0 = .ok (.iload_n 0, 1) := dk_26 (dk_at dksX1_fit_0 0 rfl rfl)
theorem dX1_fit_1 : decode cX1_fit 1 = .ok (.ifCond .ne 13, 3) := dk_154 0 13 (dk_at dksX1_fit_0 1 rfl rfl)
theorem dX1_fit_4 : decode cX1_fit 4 = .ok (.new 98, 3) := dk_187 0 98 (dk_at dksX1_fit_0 4 rfl rfl)
theorem dX1_fit_7 : decode cX1_fit 7 = .ok (.dup, 1) := dk_89 (dk_at dksX1_fit_0 7 rfl rfl)
theorem dX1_fit_8 : decode cX1_fit 8 = .ok (.ldc 100, 2) := dk_18 100 (dk_at dksX1_fit_0 8 rfl rfl)
theorem dX1_fit_10 : decode cX1_fit 10 = .ok (.invokespecial 102, 3) := dk_183 0 102 (dk_at dksX1_fit_0 10 rfl rfl)
theorem dX1_fit_13 : decode cX1_fit 13 = .ok (.athrow, 1) := dk_191 (dk_at dksX1_fit_0 13 rfl rfl)
theorem dX1_fit_14 : decode cX1_fit 14 = .ok (.return_, 1) := dk_177 (dk_at dksX1_fit_0 14 rfl rfl)
abbrev cX1_allowed : ByteArray := prog_1_method_8_code
def yX1_allowed : MethodName := ⟨RX1, "allowed", "(Z)V"⟩
def dkwX1_allowed_0 : List UInt8 := [26, 154, 0, 13, 187, 0, 107, 89, 18, 109, 183, 0, 111, 191, 177]
abbrev dktX1_allowed_0 : List UInt8 := dkwX1_allowed_0 ++ []
theorem dksX1_allowed_0 : cX1_allowed.data.toList.drop 0 = dktX1_allowed_0 := by decide +kernel
theorem dX1_allowed_0 : decode cX1_allowed 0 = .ok (.iload_n 0, 1) := dk_26 (dk_at dksX1_allowed_0 0 rfl rfl)
theorem dX1_allowed_1 : decode cX1_allowed 1 = .ok (.ifCond .ne 13, 3) := dk_154 0 13 (dk_at dksX1_allowed_0 1 rfl rfl)
theorem dX1_allowed_4 : decode cX1_allowed 4 = .ok (.new 107, 3) := dk_187 0 107 (dk_at dksX1_allowed_0 4 rfl rfl)
theorem dX1_allowed_7 : decode cX1_allowed 7 = .ok (.dup, 1) := dk_89 (dk_at dksX1_allowed_0 7 rfl rfl)
theorem dX1_allowed_8 : decode cX1_allowed 8 = .ok (.ldc 109, 2) := dk_18 109 (dk_at dksX1_allowed_0 8 rfl rfl)
theorem dX1_allowed_10 : decode cX1_allowed 10 = .ok (.invokespecial 111, 3) := dk_183 0 111 (dk_at dksX1_allowed_0 10 rfl rfl)
theorem dX1_allowed_13 : decode cX1_allowed 13 = .ok (.athrow, 1) := dk_191 (dk_at dksX1_allowed_0 13 rfl rfl)
theorem dX1_allowed_14 : decode cX1_allowed 14 = .ok (.return_, 1) := dk_177 (dk_at dksX1_allowed_0 14 rfl rfl)
abbrev cX1_written : ByteArray := prog_1_method_13_code
def yX1_written : MethodName := ⟨RX1, "written", "(LQueryHarbor$Source;)V"⟩
def dkwX1_written_2 : List UInt8 := [96, 42, 180, 0, 155, 183, 0, 172, 182, 0, 165, 87, 42, 42, 180, 0, 116, 182, 0, 175, 177]
abbrev dktX1_written_2 : List UInt8 := dkwX1_written_2 ++ []
def dkwX1_written_1 : List UInt8 := [87, 42, 180, 0, 55, 187, 0, 119, 89, 43, 180, 0, 147, 42, 180, 0, 116, 43, 180, 0, 140, 180, 0, 169]
abbrev dktX1_written_1 : List UInt8 := dkwX1_written_1 ++ dktX1_written_2
def dkwX1_written_0 : List UInt8 := [42, 89, 180, 0, 155, 4, 96, 181, 0, 155, 43, 180, 0, 156, 42, 180, 0, 155, 184, 0, 159, 182, 0, 165]
abbrev dktX1_written_0 : List UInt8 := dkwX1_written_0 ++ dktX1_written_1
theorem dksX1_written_0 : cX1_written.data.toList.drop 0 = dktX1_written_0 := by decide +kernel
theorem dksX1_written_1 : cX1_written.data.toList.drop 24 = dktX1_written_1 := dk_seg dksX1_written_0 24 rfl rfl
theorem dksX1_written_2 : cX1_written.data.toList.drop 48 = dktX1_written_2 := dk_seg dksX1_written_1 24 rfl rfl
theorem dX1_written_0 : decode cX1_written 0 = .ok (.aload_n 0, 1) := dk_42 (dk_at dksX1_written_0 0 rfl rfl)
theorem dX1_written_1 : decode cX1_written 1 = .ok (.dup, 1) := dk_89 (dk_at dksX1_written_0 1 rfl rfl)
theorem dX1_written_2 : decode cX1_written 2 = .ok (.getfield 155, 3) := dk_180 0 155 (dk_at dksX1_written_0 2 rfl rfl)
theorem dX1_written_5 : decode cX1_written 5 = .ok (.iconst 1, 1) := dk_4 (dk_at dksX1_written_0 5 rfl rfl)
theorem dX1_written_6 : decode cX1_written 6 = .ok (.iadd, 1) := dk_96 (dk_at dksX1_written_0 6 rfl rfl)
theorem dX1_written_7 : decode cX1_written 7 = .ok (.putfield 155, 3) := dk_181 0 155 (dk_at dksX1_written_0 7 rfl rfl)
theorem dX1_written_10 : decode cX1_written 10 = .ok (.aload_n 1, 1) := dk_43 (dk_at dksX1_written_0 10 rfl rfl)
theorem dX1_written_11 : decode cX1_written 11 = .ok (.getfield 156, 3) := dk_180 0 156 (dk_at dksX1_written_0 11 rfl rfl)
theorem dX1_written_14 : decode cX1_written 14 = .ok (.aload_n 0, 1) := dk_42 (dk_at dksX1_written_0 14 rfl rfl)
theorem dX1_written_15 : decode cX1_written 15 = .ok (.getfield 155, 3) := dk_180 0 155 (dk_at dksX1_written_0 15 rfl rfl)
theorem dX1_written_18 : decode cX1_written 18 = .ok (.invokestatic 159, 3) := dk_184 0 159 (dk_at dksX1_written_0 18 rfl rfl)
theorem dX1_written_21 : decode cX1_written 21 = .ok (.invokevirtual 165, 3) := dk_182 0 165 (dk_at dksX1_written_0 21 rfl rfl)
theorem dX1_written_24 : decode cX1_written 24 = .ok (.pop, 1) := dk_87 (dk_at dksX1_written_1 0 rfl rfl)
theorem dX1_written_25 : decode cX1_written 25 = .ok (.aload_n 0, 1) := dk_42 (dk_at dksX1_written_1 1 rfl rfl)
theorem dX1_written_26 : decode cX1_written 26 = .ok (.getfield 55, 3) := dk_180 0 55 (dk_at dksX1_written_1 2 rfl rfl)
theorem dX1_written_29 : decode cX1_written 29 = .ok (.new 119, 3) := dk_187 0 119 (dk_at dksX1_written_1 5 rfl rfl)
theorem dX1_written_32 : decode cX1_written 32 = .ok (.dup, 1) := dk_89 (dk_at dksX1_written_1 8 rfl rfl)
theorem dX1_written_33 : decode cX1_written 33 = .ok (.aload_n 1, 1) := dk_43 (dk_at dksX1_written_1 9 rfl rfl)
theorem dX1_written_34 : decode cX1_written 34 = .ok (.getfield 147, 3) := dk_180 0 147 (dk_at dksX1_written_1 10 rfl rfl)
theorem dX1_written_37 : decode cX1_written 37 = .ok (.aload_n 0, 1) := dk_42 (dk_at dksX1_written_1 13 rfl rfl)
theorem dX1_written_38 : decode cX1_written 38 = .ok (.getfield 116, 3) := dk_180 0 116 (dk_at dksX1_written_1 14 rfl rfl)
theorem dX1_written_41 : decode cX1_written 41 = .ok (.aload_n 1, 1) := dk_43 (dk_at dksX1_written_1 17 rfl rfl)
theorem dX1_written_42 : decode cX1_written 42 = .ok (.getfield 140, 3) := dk_180 0 140 (dk_at dksX1_written_1 18 rfl rfl)
theorem dX1_written_45 : decode cX1_written 45 = .ok (.getfield 169, 3) := dk_180 0 169 (dk_at dksX1_written_1 21 rfl rfl)
theorem dX1_written_48 : decode cX1_written 48 = .ok (.iadd, 1) := dk_96 (dk_at dksX1_written_2 0 rfl rfl)
theorem dX1_written_49 : decode cX1_written 49 = .ok (.aload_n 0, 1) := dk_42 (dk_at dksX1_written_2 1 rfl rfl)
theorem dX1_written_50 : decode cX1_written 50 = .ok (.getfield 155, 3) := dk_180 0 155 (dk_at dksX1_written_2 2 rfl rfl)
theorem dX1_written_53 : decode cX1_written 53 = .ok (.invokespecial 172, 3) := dk_183 0 172 (dk_at dksX1_written_2 5 rfl rfl)
theorem dX1_written_56 : decode cX1_written 56 = .ok (.invokevirtual 165, 3) := dk_182 0 165 (dk_at dksX1_written_2 8 rfl rfl)
theorem dX1_written_59 : decode cX1_written 59 = .ok (.pop, 1) := dk_87 (dk_at dksX1_written_2 11 rfl rfl)
theorem dX1_written_60 : decode cX1_written 60 = .ok (.aload_n 0, 1) := dk_42 (dk_at dksX1_written_2 12 rfl rfl)
theorem dX1_written_61 : decode cX1_written 61 = .ok (.aload_n 0, 1) := dk_42 (dk_at dksX1_written_2 13 rfl rfl)
theorem dX1_written_62 : decode cX1_written 62 = .ok (.getfield 116, 3) := dk_180 0 116 (dk_at dksX1_written_2 14 rfl rfl)
theorem dX1_written_65 : decode cX1_written 65 = .ok (.invokevirtual 175, 3) := dk_182 0 175 (dk_at dksX1_written_2 17 rfl rfl)
theorem dX1_written_68 : decode cX1_written 68 = .ok (.return_, 1) := dk_177 (dk_at dksX1_written_2 20 rfl rfl)
abbrev cX1_goTo : ByteArray := prog_1_method_11_code
def yX1_goTo : MethodName := ⟨RX1, "goTo", "(I)V"⟩
def dkwX1_goTo_5 : List UInt8 := [182, 0, 124, 87, 132, 2, 255, 167, 255, 206, 177]
abbrev dktX1_goTo_5 : List UInt8 := dkwX1_goTo_5 ++ []
def dkwX1_goTo_4 : List UInt8 := [180, 0, 133, 100, 45, 180, 0, 136, 180, 0, 140, 180, 0, 144, 164, 0, 12, 42, 180, 0, 59, 28]
abbrev dktX1_goTo_4 : List UInt8 := dkwX1_goTo_4 ++ dktX1_goTo_5
def dkwX1_goTo_3 : List UInt8 := [61, 28, 155, 0, 52, 42, 180, 0, 59, 28, 182, 0, 9, 192, 0, 131, 78, 42, 180, 0, 116, 45]
abbrev dktX1_goTo_3 : List UInt8 := dkwX1_goTo_3 ++ dktX1_goTo_4
def dkwX1_goTo_2 : List UInt8 := [182, 0, 124, 87, 42, 45, 182, 0, 127, 132, 2, 255, 167, 255, 212, 42, 180, 0, 59, 182, 0, 3, 4, 100]
abbrev dktX1_goTo_2 : List UInt8 := dkwX1_goTo_2 ++ dktX1_goTo_3
def dkwX1_goTo_1 : List UInt8 := [182, 0, 9, 192, 0, 119, 78, 45, 180, 0, 121, 42, 180, 0, 116, 163, 0, 17, 42, 180, 0, 55, 28]
abbrev dktX1_goTo_1 : List UInt8 := dkwX1_goTo_1 ++ dktX1_goTo_2
def dkwX1_goTo_0 : List UInt8 := [42, 27, 181, 0, 116, 42, 180, 0, 55, 182, 0, 3, 4, 100, 61, 28, 155, 0, 46, 42, 180, 0, 55, 28]
abbrev dktX1_goTo_0 : List UInt8 := dkwX1_goTo_0 ++ dktX1_goTo_1
theorem dksX1_goTo_0 : cX1_goTo.data.toList.drop 0 = dktX1_goTo_0 := by decide +kernel
theorem dksX1_goTo_1 : cX1_goTo.data.toList.drop 24 = dktX1_goTo_1 := dk_seg dksX1_goTo_0 24 rfl rfl
theorem dksX1_goTo_2 : cX1_goTo.data.toList.drop 47 = dktX1_goTo_2 := dk_seg dksX1_goTo_1 23 rfl rfl
theorem dksX1_goTo_3 : cX1_goTo.data.toList.drop 71 = dktX1_goTo_3 := dk_seg dksX1_goTo_2 24 rfl rfl
theorem dksX1_goTo_4 : cX1_goTo.data.toList.drop 93 = dktX1_goTo_4 := dk_seg dksX1_goTo_3 22 rfl rfl
theorem dksX1_goTo_5 : cX1_goTo.data.toList.drop 115 = dktX1_goTo_5 := dk_seg dksX1_goTo_4 22 rfl rfl
theorem dX1_goTo_0 : decode cX1_goTo 0 = .ok (.aload_n 0, 1) := dk_42 (dk_at dksX1_goTo_0 0 rfl rfl)
theorem dX1_goTo_1 : decode cX1_goTo 1 = .ok (.iload_n 1, 1) := dk_27 (dk_at dksX1_goTo_0 1 rfl rfl)
theorem dX1_goTo_2 : decode cX1_goTo 2 = .ok (.putfield 116, 3) := dk_181 0 116 (dk_at dksX1_goTo_0 2 rfl rfl)
theorem dX1_goTo_5 : decode cX1_goTo 5 = .ok (.aload_n 0, 1) := dk_42 (dk_at dksX1_goTo_0 5 rfl rfl)
theorem dX1_goTo_6 : decode cX1_goTo 6 = .ok (.getfield 55, 3) := dk_180 0 55 (dk_at dksX1_goTo_0 6 rfl rfl)
theorem dX1_goTo_9 : decode cX1_goTo 9 = .ok (.invokevirtual 3, 3) := dk_182 0 3 (dk_at dksX1_goTo_0 9 rfl rfl)
theorem dX1_goTo_12 : decode cX1_goTo 12 = .ok (.iconst 1, 1) := dk_4 (dk_at dksX1_goTo_0 12 rfl rfl)
theorem dX1_goTo_13 : decode cX1_goTo 13 = .ok (.isub, 1) := dk_100 (dk_at dksX1_goTo_0 13 rfl rfl)
theorem dX1_goTo_14 : decode cX1_goTo 14 = .ok (.istore_n 2, 1) := dk_61 (dk_at dksX1_goTo_0 14 rfl rfl)
theorem dX1_goTo_15 : decode cX1_goTo 15 = .ok (.iload_n 2, 1) := dk_28 (dk_at dksX1_goTo_0 15 rfl rfl)
theorem dX1_goTo_16 : decode cX1_goTo 16 = .ok (.ifCond .lt 46, 3) := dk_155 0 46 (dk_at dksX1_goTo_0 16 rfl rfl)
theorem dX1_goTo_19 : decode cX1_goTo 19 = .ok (.aload_n 0, 1) := dk_42 (dk_at dksX1_goTo_0 19 rfl rfl)
theorem dX1_goTo_20 : decode cX1_goTo 20 = .ok (.getfield 55, 3) := dk_180 0 55 (dk_at dksX1_goTo_0 20 rfl rfl)
theorem dX1_goTo_23 : decode cX1_goTo 23 = .ok (.iload_n 2, 1) := dk_28 (dk_at dksX1_goTo_0 23 rfl rfl)
theorem dX1_goTo_24 : decode cX1_goTo 24 = .ok (.invokevirtual 9, 3) := dk_182 0 9 (dk_at dksX1_goTo_1 0 rfl rfl)
theorem dX1_goTo_27 : decode cX1_goTo 27 = .ok (.checkcast 119, 3) := dk_192 0 119 (dk_at dksX1_goTo_1 3 rfl rfl)
theorem dX1_goTo_30 : decode cX1_goTo 30 = .ok (.astore_n 3, 1) := dk_78 (dk_at dksX1_goTo_1 6 rfl rfl)
theorem dX1_goTo_31 : decode cX1_goTo 31 = .ok (.aload_n 3, 1) := dk_45 (dk_at dksX1_goTo_1 7 rfl rfl)
theorem dX1_goTo_32 : decode cX1_goTo 32 = .ok (.getfield 121, 3) := dk_180 0 121 (dk_at dksX1_goTo_1 8 rfl rfl)
theorem dX1_goTo_35 : decode cX1_goTo 35 = .ok (.aload_n 0, 1) := dk_42 (dk_at dksX1_goTo_1 11 rfl rfl)
theorem dX1_goTo_36 : decode cX1_goTo 36 = .ok (.getfield 116, 3) := dk_180 0 116 (dk_at dksX1_goTo_1 12 rfl rfl)
theorem dX1_goTo_39 : decode cX1_goTo 39 = .ok (.if_icmp .gt 17, 3) := dk_163 0 17 (dk_at dksX1_goTo_1 15 rfl rfl)
theorem dX1_goTo_42 : decode cX1_goTo 42 = .ok (.aload_n 0, 1) := dk_42 (dk_at dksX1_goTo_1 18 rfl rfl)
theorem dX1_goTo_43 : decode cX1_goTo 43 = .ok (.getfield 55, 3) := dk_180 0 55 (dk_at dksX1_goTo_1 19 rfl rfl)
theorem dX1_goTo_46 : decode cX1_goTo 46 = .ok (.iload_n 2, 1) := dk_28 (dk_at dksX1_goTo_1 22 rfl rfl)
theorem dX1_goTo_47 : decode cX1_goTo 47 = .ok (.invokevirtual 124, 3) := dk_182 0 124 (dk_at dksX1_goTo_2 0 rfl rfl)
theorem dX1_goTo_50 : decode cX1_goTo 50 = .ok (.pop, 1) := dk_87 (dk_at dksX1_goTo_2 3 rfl rfl)
theorem dX1_goTo_51 : decode cX1_goTo 51 = .ok (.aload_n 0, 1) := dk_42 (dk_at dksX1_goTo_2 4 rfl rfl)
theorem dX1_goTo_52 : decode cX1_goTo 52 = .ok (.aload_n 3, 1) := dk_45 (dk_at dksX1_goTo_2 5 rfl rfl)
theorem dX1_goTo_53 : decode cX1_goTo 53 = .ok (.invokevirtual 127, 3) := dk_182 0 127 (dk_at dksX1_goTo_2 6 rfl rfl)
theorem dX1_goTo_56 : decode cX1_goTo 56 = .ok (.iinc 2 (-1), 3) := dk_132 2 255 (dk_at dksX1_goTo_2 9 rfl rfl)
theorem dX1_goTo_59 : decode cX1_goTo 59 = .ok (.goto (-44), 3) := dk_167 255 212 (dk_at dksX1_goTo_2 12 rfl rfl)
theorem dX1_goTo_62 : decode cX1_goTo 62 = .ok (.aload_n 0, 1) := dk_42 (dk_at dksX1_goTo_2 15 rfl rfl)
theorem dX1_goTo_63 : decode cX1_goTo 63 = .ok (.getfield 59, 3) := dk_180 0 59 (dk_at dksX1_goTo_2 16 rfl rfl)
theorem dX1_goTo_66 : decode cX1_goTo 66 = .ok (.invokevirtual 3, 3) := dk_182 0 3 (dk_at dksX1_goTo_2 19 rfl rfl)
theorem dX1_goTo_69 : decode cX1_goTo 69 = .ok (.iconst 1, 1) := dk_4 (dk_at dksX1_goTo_2 22 rfl rfl)
theorem dX1_goTo_70 : decode cX1_goTo 70 = .ok (.isub, 1) := dk_100 (dk_at dksX1_goTo_2 23 rfl rfl)
theorem dX1_goTo_71 : decode cX1_goTo 71 = .ok (.istore_n 2, 1) := dk_61 (dk_at dksX1_goTo_3 0 rfl rfl)
theorem dX1_goTo_72 : decode cX1_goTo 72 = .ok (.iload_n 2, 1) := dk_28 (dk_at dksX1_goTo_3 1 rfl rfl)
theorem dX1_goTo_73 : decode cX1_goTo 73 = .ok (.ifCond .lt 52, 3) := dk_155 0 52 (dk_at dksX1_goTo_3 2 rfl rfl)
theorem dX1_goTo_76 : decode cX1_goTo 76 = .ok (.aload_n 0, 1) := dk_42 (dk_at dksX1_goTo_3 5 rfl rfl)
theorem dX1_goTo_77 : decode cX1_goTo 77 = .ok (.getfield 59, 3) := dk_180 0 59 (dk_at dksX1_goTo_3 6 rfl rfl)
theorem dX1_goTo_80 : decode cX1_goTo 80 = .ok (.iload_n 2, 1) := dk_28 (dk_at dksX1_goTo_3 9 rfl rfl)
theorem dX1_goTo_81 : decode cX1_goTo 81 = .ok (.invokevirtual 9, 3) := dk_182 0 9 (dk_at dksX1_goTo_3 10 rfl rfl)
theorem dX1_goTo_84 : decode cX1_goTo 84 = .ok (.checkcast 131, 3) := dk_192 0 131 (dk_at dksX1_goTo_3 13 rfl rfl)
theorem dX1_goTo_87 : decode cX1_goTo 87 = .ok (.astore_n 3, 1) := dk_78 (dk_at dksX1_goTo_3 16 rfl rfl)
theorem dX1_goTo_88 : decode cX1_goTo 88 = .ok (.aload_n 0, 1) := dk_42 (dk_at dksX1_goTo_3 17 rfl rfl)
theorem dX1_goTo_89 : decode cX1_goTo 89 = .ok (.getfield 116, 3) := dk_180 0 116 (dk_at dksX1_goTo_3 18 rfl rfl)
theorem dX1_goTo_92 : decode cX1_goTo 92 = .ok (.aload_n 3, 1) := dk_45 (dk_at dksX1_goTo_3 21 rfl rfl)
theorem dX1_goTo_93 : decode cX1_goTo 93 = .ok (.getfield 133, 3) := dk_180 0 133 (dk_at dksX1_goTo_4 0 rfl rfl)
theorem dX1_goTo_96 : decode cX1_goTo 96 = .ok (.isub, 1) := dk_100 (dk_at dksX1_goTo_4 3 rfl rfl)
theorem dX1_goTo_97 : decode cX1_goTo 97 = .ok (.aload_n 3, 1) := dk_45 (dk_at dksX1_goTo_4 4 rfl rfl)
theorem dX1_goTo_98 : decode cX1_goTo 98 = .ok (.getfield 136, 3) := dk_180 0 136 (dk_at dksX1_goTo_4 5 rfl rfl)
theorem dX1_goTo_101 : decode cX1_goTo 101 = .ok (.getfield 140, 3) := dk_180 0 140 (dk_at dksX1_goTo_4 8 rfl rfl)
theorem dX1_goTo_104 : decode cX1_goTo 104 = .ok (.getfield 144, 3) := dk_180 0 144 (dk_at dksX1_goTo_4 11 rfl rfl)
theorem dX1_goTo_107 : decode cX1_goTo 107 = .ok (.if_icmp .le 12, 3) := dk_164 0 12 (dk_at dksX1_goTo_4 14 rfl rfl)
theorem dX1_goTo_110 : decode cX1_goTo 110 = .ok (.aload_n 0, 1) := dk_42 (dk_at dksX1_goTo_4 17 rfl rfl)
theorem dX1_goTo_111 : decode cX1_goTo 111 = .ok (.getfield 59, 3) := dk_180 0 59 (dk_at dksX1_goTo_4 18 rfl rfl)
theorem dX1_goTo_114 : decode cX1_goTo 114 = .ok (.iload_n 2, 1) := dk_28 (dk_at dksX1_goTo_4 21 rfl rfl)
theorem dX1_goTo_115 : decode cX1_goTo 115 = .ok (.invokevirtual 124, 3) := dk_182 0 124 (dk_at dksX1_goTo_5 0 rfl rfl)
theorem dX1_goTo_118 : decode cX1_goTo 118 = .ok (.pop, 1) := dk_87 (dk_at dksX1_goTo_5 3 rfl rfl)
theorem dX1_goTo_119 : decode cX1_goTo 119 = .ok (.iinc 2 (-1), 3) := dk_132 2 255 (dk_at dksX1_goTo_5 4 rfl rfl)
theorem dX1_goTo_122 : decode cX1_goTo 122 = .ok (.goto (-50), 3) := dk_167 255 206 (dk_at dksX1_goTo_5 7 rfl rfl)
theorem dX1_goTo_125 : decode cX1_goTo 125 = .ok (.return_, 1) := dk_177 (dk_at dksX1_goTo_5 10 rfl rfl)
abbrev cX1_drop : ByteArray := prog_1_method_12_code
def yX1_drop : MethodName := ⟨RX1, "drop", "(LQueryHarbor$Message;)V"⟩
def dkwX1_drop_2 : List UInt8 := [180, 0, 154, 162, 0, 12, 42, 180, 0, 59, 28, 182, 0, 124, 87, 132, 2, 255, 167, 255, 203, 177]
abbrev dktX1_drop_2 : List UInt8 := dkwX1_drop_2 ++ []
def dkwX1_drop_1 : List UInt8 := [192, 0, 131, 78, 45, 180, 0, 136, 180, 0, 147, 43, 180, 0, 149, 160, 0, 23, 45, 180, 0, 151, 43]
abbrev dktX1_drop_1 : List UInt8 := dkwX1_drop_1 ++ dktX1_drop_2
def dkwX1_drop_0 : List UInt8 := [42, 180, 0, 59, 182, 0, 3, 4, 100, 61, 28, 155, 0, 55, 42, 180, 0, 59, 28, 182, 0, 9]
abbrev dktX1_drop_0 : List UInt8 := dkwX1_drop_0 ++ dktX1_drop_1
theorem dksX1_drop_0 : cX1_drop.data.toList.drop 0 = dktX1_drop_0 := by decide +kernel
theorem dksX1_drop_1 : cX1_drop.data.toList.drop 22 = dktX1_drop_1 := dk_seg dksX1_drop_0 22 rfl rfl
theorem dksX1_drop_2 : cX1_drop.data.toList.drop 45 = dktX1_drop_2 := dk_seg dksX1_drop_1 23 rfl rfl
theorem dX1_drop_0 : decode cX1_drop 0 = .ok (.aload_n 0, 1) := dk_42 (dk_at dksX1_drop_0 0 rfl rfl)
theorem dX1_drop_1 : decode cX1_drop 1 = .ok (.getfield 59, 3) := dk_180 0 59 (dk_at dksX1_drop_0 1 rfl rfl)
theorem dX1_drop_4 : decode cX1_drop 4 = .ok (.invokevirtual 3, 3) := dk_182 0 3 (dk_at dksX1_drop_0 4 rfl rfl)
theorem dX1_drop_7 : decode cX1_drop 7 = .ok (.iconst 1, 1) := dk_4 (dk_at dksX1_drop_0 7 rfl rfl)
theorem dX1_drop_8 : decode cX1_drop 8 = .ok (.isub, 1) := dk_100 (dk_at dksX1_drop_0 8 rfl rfl)
theorem dX1_drop_9 : decode cX1_drop 9 = .ok (.istore_n 2, 1) := dk_61 (dk_at dksX1_drop_0 9 rfl rfl)
theorem dX1_drop_10 : decode cX1_drop 10 = .ok (.iload_n 2, 1) := dk_28 (dk_at dksX1_drop_0 10 rfl rfl)
theorem dX1_drop_11 : decode cX1_drop 11 = .ok (.ifCond .lt 55, 3) := dk_155 0 55 (dk_at dksX1_drop_0 11 rfl rfl)
theorem dX1_drop_14 : decode cX1_drop 14 = .ok (.aload_n 0, 1) := dk_42 (dk_at dksX1_drop_0 14 rfl rfl)
theorem dX1_drop_15 : decode cX1_drop 15 = .ok (.getfield 59, 3) := dk_180 0 59 (dk_at dksX1_drop_0 15 rfl rfl)
theorem dX1_drop_18 : decode cX1_drop 18 = .ok (.iload_n 2, 1) := dk_28 (dk_at dksX1_drop_0 18 rfl rfl)
theorem dX1_drop_19 : decode cX1_drop 19 = .ok (.invokevirtual 9, 3) := dk_182 0 9 (dk_at dksX1_drop_0 19 rfl rfl)
theorem dX1_drop_22 : decode cX1_drop 22 = .ok (.checkcast 131, 3) := dk_192 0 131 (dk_at dksX1_drop_1 0 rfl rfl)
theorem dX1_drop_25 : decode cX1_drop 25 = .ok (.astore_n 3, 1) := dk_78 (dk_at dksX1_drop_1 3 rfl rfl)
theorem dX1_drop_26 : decode cX1_drop 26 = .ok (.aload_n 3, 1) := dk_45 (dk_at dksX1_drop_1 4 rfl rfl)
theorem dX1_drop_27 : decode cX1_drop 27 = .ok (.getfield 136, 3) := dk_180 0 136 (dk_at dksX1_drop_1 5 rfl rfl)
theorem dX1_drop_30 : decode cX1_drop 30 = .ok (.getfield 147, 3) := dk_180 0 147 (dk_at dksX1_drop_1 8 rfl rfl)
theorem dX1_drop_33 : decode cX1_drop 33 = .ok (.aload_n 1, 1) := dk_43 (dk_at dksX1_drop_1 11 rfl rfl)
theorem dX1_drop_34 : decode cX1_drop 34 = .ok (.getfield 149, 3) := dk_180 0 149 (dk_at dksX1_drop_1 12 rfl rfl)
theorem dX1_drop_37 : decode cX1_drop 37 = .ok (.if_icmp .ne 23, 3) := dk_160 0 23 (dk_at dksX1_drop_1 15 rfl rfl)
theorem dX1_drop_40 : decode cX1_drop 40 = .ok (.aload_n 3, 1) := dk_45 (dk_at dksX1_drop_1 18 rfl rfl)
theorem dX1_drop_41 : decode cX1_drop 41 = .ok (.getfield 151, 3) := dk_180 0 151 (dk_at dksX1_drop_1 19 rfl rfl)
theorem dX1_drop_44 : decode cX1_drop 44 = .ok (.aload_n 1, 1) := dk_43 (dk_at dksX1_drop_1 22 rfl rfl)
theorem dX1_drop_45 : decode cX1_drop 45 = .ok (.getfield 154, 3) := dk_180 0 154 (dk_at dksX1_drop_2 0 rfl rfl)
theorem dX1_drop_48 : decode cX1_drop 48 = .ok (.if_icmp .ge 12, 3) := dk_162 0 12 (dk_at dksX1_drop_2 3 rfl rfl)
theorem dX1_drop_51 : decode cX1_drop 51 = .ok (.aload_n 0, 1) := dk_42 (dk_at dksX1_drop_2 6 rfl rfl)
theorem dX1_drop_52 : decode cX1_drop 52 = .ok (.getfield 59, 3) := dk_180 0 59 (dk_at dksX1_drop_2 7 rfl rfl)
theorem dX1_drop_55 : decode cX1_drop 55 = .ok (.iload_n 2, 1) := dk_28 (dk_at dksX1_drop_2 10 rfl rfl)
theorem dX1_drop_56 : decode cX1_drop 56 = .ok (.invokevirtual 124, 3) := dk_182 0 124 (dk_at dksX1_drop_2 11 rfl rfl)
theorem dX1_drop_59 : decode cX1_drop 59 = .ok (.pop, 1) := dk_87 (dk_at dksX1_drop_2 14 rfl rfl)
theorem dX1_drop_60 : decode cX1_drop 60 = .ok (.iinc 2 (-1), 3) := dk_132 2 255 (dk_at dksX1_drop_2 15 rfl rfl)
theorem dX1_drop_63 : decode cX1_drop 63 = .ok (.goto (-53), 3) := dk_167 255 203 (dk_at dksX1_drop_2 18 rfl rfl)
theorem dX1_drop_66 : decode cX1_drop 66 = .ok (.return_, 1) := dk_177 (dk_at dksX1_drop_2 21 rfl rfl)
abbrev cX1_change : ByteArray := prog_1_method_16_code
def yX1_change : MethodName := ⟨RX1, "change", "(IIII)I"⟩
def dkwX1_change_5 : List UInt8 := [182, 0, 236, 182, 0, 240, 25, 6, 180, 0, 244, 29, 46, 172]
abbrev dktX1_change_5 : List UInt8 := dkwX1_change_5 ++ []
def dkwX1_change_4 : List UInt8 := [21, 8, 21, 4, 159, 0, 7, 4, 167, 0, 4, 3, 96, 181, 0, 213, 42, 25, 5, 25, 6, 29, 21, 8]
abbrev dktX1_change_4 : List UInt8 := dkwX1_change_4 ++ dktX1_change_5
def dkwX1_change_3 : List UInt8 := [167, 0, 4, 3, 184, 0, 103, 25, 7, 29, 21, 4, 185, 0, 210, 3, 0, 54, 8, 42, 89, 180, 0, 213]
abbrev dktX1_change_3 : List UInt8 := dkwX1_change_3 ++ dktX1_change_4
def dkwX1_change_2 : List UInt8 := [185, 0, 196, 1, 0, 154, 0, 20, 25, 7, 29, 21, 4, 185, 0, 187, 3, 0, 153, 0, 7, 4]
abbrev dktX1_change_2 : List UInt8 := dkwX1_change_2 ++ dktX1_change_3
def dkwX1_change_1 : List UInt8 := [58, 7, 29, 25, 7, 185, 0, 233, 1, 0, 184, 0, 112, 87, 29, 157, 0, 13, 25, 7]
abbrev dktX1_change_1 : List UInt8 := dkwX1_change_1 ++ dktX1_change_2
def dkwX1_change_0 : List UInt8 := [42, 27, 182, 0, 179, 58, 5, 25, 5, 28, 184, 0, 229, 58, 6, 25, 5, 180, 0, 140, 180, 0, 183]
abbrev dktX1_change_0 : List UInt8 := dkwX1_change_0 ++ dktX1_change_1
theorem dksX1_change_0 : cX1_change.data.toList.drop 0 = dktX1_change_0 := by decide +kernel
theorem dksX1_change_1 : cX1_change.data.toList.drop 23 = dktX1_change_1 := dk_seg dksX1_change_0 23 rfl rfl
theorem dksX1_change_2 : cX1_change.data.toList.drop 43 = dktX1_change_2 := dk_seg dksX1_change_1 20 rfl rfl
theorem dksX1_change_3 : cX1_change.data.toList.drop 65 = dktX1_change_3 := dk_seg dksX1_change_2 22 rfl rfl
theorem dksX1_change_4 : cX1_change.data.toList.drop 89 = dktX1_change_4 := dk_seg dksX1_change_3 24 rfl rfl
theorem dksX1_change_5 : cX1_change.data.toList.drop 113 = dktX1_change_5 := dk_seg dksX1_change_4 24 rfl rfl
theorem dX1_change_0 : decode cX1_change 0 = .ok (.aload_n 0, 1) := dk_42 (dk_at dksX1_change_0 0 rfl rfl)
theorem dX1_change_1 : decode cX1_change 1 = .ok (.iload_n 1, 1) := dk_27 (dk_at dksX1_change_0 1 rfl rfl)
theorem dX1_change_2 : decode cX1_change 2 = .ok (.invokevirtual 179, 3) := dk_182 0 179 (dk_at dksX1_change_0 2 rfl rfl)
theorem dX1_change_5 : decode cX1_change 5 = .ok (.astore 5, 2) := dk_58 5 (dk_at dksX1_change_0 5 rfl rfl)
theorem dX1_change_7 : decode cX1_change 7 = .ok (.aload 5, 2) := dk_25 5 (dk_at dksX1_change_0 7 rfl rfl)
theorem dX1_change_9 : decode cX1_change 9 = .ok (.iload_n 2, 1) := dk_28 (dk_at dksX1_change_0 9 rfl rfl)
theorem dX1_change_10 : decode cX1_change 10 = .ok (.invokestatic 229, 3) := dk_184 0 229 (dk_at dksX1_change_0 10 rfl rfl)
theorem dX1_change_13 : decode cX1_change 13 = .ok (.astore 6, 2) := dk_58 6 (dk_at dksX1_change_0 13 rfl rfl)
theorem dX1_change_15 : decode cX1_change 15 = .ok (.aload 5, 2) := dk_25 5 (dk_at dksX1_change_0 15 rfl rfl)
theorem dX1_change_17 : decode cX1_change 17 = .ok (.getfield 140, 3) := dk_180 0 140 (dk_at dksX1_change_0 17 rfl rfl)
theorem dX1_change_20 : decode cX1_change 20 = .ok (.getfield 183, 3) := dk_180 0 183 (dk_at dksX1_change_0 20 rfl rfl)
theorem dX1_change_23 : decode cX1_change 23 = .ok (.astore 7, 2) := dk_58 7 (dk_at dksX1_change_1 0 rfl rfl)
theorem dX1_change_25 : decode cX1_change 25 = .ok (.iload_n 3, 1) := dk_29 (dk_at dksX1_change_1 2 rfl rfl)
theorem dX1_change_26 : decode cX1_change 26 = .ok (.aload 7, 2) := dk_25 7 (dk_at dksX1_change_1 3 rfl rfl)
theorem dX1_change_28 : decode cX1_change 28 = .ok (.invokeinterface 233 1, 5) := by decide +kernel
theorem dX1_change_33 : decode cX1_change 33 = .ok (.invokestatic 112, 3) := dk_184 0 112 (dk_at dksX1_change_1 10 rfl rfl)
theorem dX1_change_36 : decode cX1_change 36 = .ok (.pop, 1) := dk_87 (dk_at dksX1_change_1 13 rfl rfl)
theorem dX1_change_37 : decode cX1_change 37 = .ok (.iload_n 3, 1) := dk_29 (dk_at dksX1_change_1 14 rfl rfl)
theorem dX1_change_38 : decode cX1_change 38 = .ok (.ifCond .gt 13, 3) := dk_157 0 13 (dk_at dksX1_change_1 15 rfl rfl)
theorem dX1_change_41 : decode cX1_change 41 = .ok (.aload 7, 2) := dk_25 7 (dk_at dksX1_change_1 18 rfl rfl)
theorem dX1_change_43 : decode cX1_change 43 = .ok (.invokeinterface 196 1, 5) := by decide +kernel
theorem dX1_change_48 : decode cX1_change 48 = .ok (.ifCond .ne 20, 3) := dk_154 0 20 (dk_at dksX1_change_2 5 rfl rfl)
theorem dX1_change_51 : decode cX1_change 51 = .ok (.aload 7, 2) := dk_25 7 (dk_at dksX1_change_2 8 rfl rfl)
theorem dX1_change_53 : decode cX1_change 53 = .ok (.iload_n 3, 1) := dk_29 (dk_at dksX1_change_2 10 rfl rfl)
theorem dX1_change_54 : decode cX1_change 54 = .ok (.iload 4, 2) := dk_21 4 (dk_at dksX1_change_2 11 rfl rfl)
theorem dX1_change_56 : decode cX1_change 56 = .ok (.invokeinterface 187 3, 5) := by decide +kernel
theorem dX1_change_61 : decode cX1_change 61 = .ok (.ifCond .eq 7, 3) := dk_153 0 7 (dk_at dksX1_change_2 18 rfl rfl)
theorem dX1_change_64 : decode cX1_change 64 = .ok (.iconst 1, 1) := dk_4 (dk_at dksX1_change_2 21 rfl rfl)
theorem dX1_change_65 : decode cX1_change 65 = .ok (.goto 4, 3) := dk_167 0 4 (dk_at dksX1_change_3 0 rfl rfl)
theorem dX1_change_68 : decode cX1_change 68 = .ok (.iconst 0, 1) := dk_3 (dk_at dksX1_change_3 3 rfl rfl)
theorem dX1_change_69 : decode cX1_change 69 = .ok (.invokestatic 103, 3) := dk_184 0 103 (dk_at dksX1_change_3 4 rfl rfl)
theorem dX1_change_72 : decode cX1_change 72 = .ok (.aload 7, 2) := dk_25 7 (dk_at dksX1_change_3 7 rfl rfl)
theorem dX1_change_74 : decode cX1_change 74 = .ok (.iload_n 3, 1) := dk_29 (dk_at dksX1_change_3 9 rfl rfl)
theorem dX1_change_75 : decode cX1_change 75 = .ok (.iload 4, 2) := dk_21 4 (dk_at dksX1_change_3 10 rfl rfl)
theorem dX1_change_77 : decode cX1_change 77 = .ok (.invokeinterface 210 3, 5) := by decide +kernel
theorem dX1_change_82 : decode cX1_change 82 = .ok (.istore 8, 2) := dk_54 8 (dk_at dksX1_change_3 17 rfl rfl)
theorem dX1_change_84 : decode cX1_change 84 = .ok (.aload_n 0, 1) := dk_42 (dk_at dksX1_change_3 19 rfl rfl)
theorem dX1_change_85 : decode cX1_change 85 = .ok (.dup, 1) := dk_89 (dk_at dksX1_change_3 20 rfl rfl)
theorem dX1_change_86 : decode cX1_change 86 = .ok (.getfield 213, 3) := dk_180 0 213 (dk_at dksX1_change_3 21 rfl rfl)
theorem dX1_change_89 : decode cX1_change 89 = .ok (.iload 8, 2) := dk_21 8 (dk_at dksX1_change_4 0 rfl rfl)
theorem dX1_change_91 : decode cX1_change 91 = .ok (.iload 4, 2) := dk_21 4 (dk_at dksX1_change_4 2 rfl rfl)
theorem dX1_change_93 : decode cX1_change 93 = .ok (.if_icmp .eq 7, 3) := dk_159 0 7 (dk_at dksX1_change_4 4 rfl rfl)
theorem dX1_change_96 : decode cX1_change 96 = .ok (.iconst 1, 1) := dk_4 (dk_at dksX1_change_4 7 rfl rfl)
theorem dX1_change_97 : decode cX1_change 97 = .ok (.goto 4, 3) := dk_167 0 4 (dk_at dksX1_change_4 8 rfl rfl)
theorem dX1_change_100 : decode cX1_change 100 = .ok (.iconst 0, 1) := dk_3 (dk_at dksX1_change_4 11 rfl rfl)
theorem dX1_change_101 : decode cX1_change 101 = .ok (.iadd, 1) := dk_96 (dk_at dksX1_change_4 12 rfl rfl)
theorem dX1_change_102 : decode cX1_change 102 = .ok (.putfield 213, 3) := dk_181 0 213 (dk_at dksX1_change_4 13 rfl rfl)
theorem dX1_change_105 : decode cX1_change 105 = .ok (.aload_n 0, 1) := dk_42 (dk_at dksX1_change_4 16 rfl rfl)
theorem dX1_change_106 : decode cX1_change 106 = .ok (.aload 5, 2) := dk_25 5 (dk_at dksX1_change_4 17 rfl rfl)
theorem dX1_change_108 : decode cX1_change 108 = .ok (.aload 6, 2) := dk_25 6 (dk_at dksX1_change_4 19 rfl rfl)
theorem dX1_change_110 : decode cX1_change 110 = .ok (.iload_n 3, 1) := dk_29 (dk_at dksX1_change_4 21 rfl rfl)
theorem dX1_change_111 : decode cX1_change 111 = .ok (.iload 8, 2) := dk_21 8 (dk_at dksX1_change_4 22 rfl rfl)
theorem dX1_change_113 : decode cX1_change 113 = .ok (.invokevirtual 236, 3) := dk_182 0 236 (dk_at dksX1_change_5 0 rfl rfl)
theorem dX1_change_116 : decode cX1_change 116 = .ok (.invokevirtual 240, 3) := dk_182 0 240 (dk_at dksX1_change_5 3 rfl rfl)
theorem dX1_change_119 : decode cX1_change 119 = .ok (.aload 6, 2) := dk_25 6 (dk_at dksX1_change_5 6 rfl rfl)
theorem dX1_change_121 : decode cX1_change 121 = .ok (.getfield 244, 3) := dk_180 0 244 (dk_at dksX1_change_5 8 rfl rfl)
theorem dX1_change_124 : decode cX1_change 124 = .ok (.iload_n 3, 1) := dk_29 (dk_at dksX1_change_5 11 rfl rfl)
theorem dX1_change_125 : decode cX1_change 125 = .ok (.iaload, 1) := dk_46 (dk_at dksX1_change_5 12 rfl rfl)
theorem dX1_change_126 : decode cX1_change 126 = .ok (.ireturn, 1) := dk_172 (dk_at dksX1_change_5 13 rfl rfl)
abbrev cX1_rowOf : ByteArray := prog_1_method_15_code
def yX1_rowOf : MethodName := ⟨RX1, "rowOf", "(LQueryHarbor$Source;I)LQueryHarbor$Row;"⟩
def dkwX1_rowOf_1 : List UInt8 := [182, 0, 9, 192, 0, 216, 176]
abbrev dktX1_rowOf_1 : List UInt8 := dkwX1_rowOf_1 ++ []
def dkwX1_rowOf_0 : List UInt8 := [42, 27, 182, 0, 200, 61, 28, 42, 180, 0, 193, 182, 0, 3, 184, 0, 112, 87, 42, 180, 0, 193, 28]
abbrev dktX1_rowOf_0 : List UInt8 := dkwX1_rowOf_0 ++ dktX1_rowOf_1
theorem dksX1_rowOf_0 : cX1_rowOf.data.toList.drop 0 = dktX1_rowOf_0 := by decide +kernel
theorem dksX1_rowOf_1 : cX1_rowOf.data.toList.drop 23 = dktX1_rowOf_1 := dk_seg dksX1_rowOf_0 23 rfl rfl
theorem dX1_rowOf_0 : decode cX1_rowOf 0 = .ok (.aload_n 0, 1) := dk_42 (dk_at dksX1_rowOf_0 0 rfl rfl)
theorem dX1_rowOf_1 : decode cX1_rowOf 1 = .ok (.iload_n 1, 1) := dk_27 (dk_at dksX1_rowOf_0 1 rfl rfl)
theorem dX1_rowOf_2 : decode cX1_rowOf 2 = .ok (.invokevirtual 200, 3) := dk_182 0 200 (dk_at dksX1_rowOf_0 2 rfl rfl)
theorem dX1_rowOf_5 : decode cX1_rowOf 5 = .ok (.istore_n 2, 1) := dk_61 (dk_at dksX1_rowOf_0 5 rfl rfl)
theorem dX1_rowOf_6 : decode cX1_rowOf 6 = .ok (.iload_n 2, 1) := dk_28 (dk_at dksX1_rowOf_0 6 rfl rfl)
theorem dX1_rowOf_7 : decode cX1_rowOf 7 = .ok (.aload_n 0, 1) := dk_42 (dk_at dksX1_rowOf_0 7 rfl rfl)
theorem dX1_rowOf_8 : decode cX1_rowOf 8 = .ok (.getfield 193, 3) := dk_180 0 193 (dk_at dksX1_rowOf_0 8 rfl rfl)
theorem dX1_rowOf_11 : decode cX1_rowOf 11 = .ok (.invokevirtual 3, 3) := dk_182 0 3 (dk_at dksX1_rowOf_0 11 rfl rfl)
theorem dX1_rowOf_14 : decode cX1_rowOf 14 = .ok (.invokestatic 112, 3) := dk_184 0 112 (dk_at dksX1_rowOf_0 14 rfl rfl)
theorem dX1_rowOf_17 : decode cX1_rowOf 17 = .ok (.pop, 1) := dk_87 (dk_at dksX1_rowOf_0 17 rfl rfl)
theorem dX1_rowOf_18 : decode cX1_rowOf 18 = .ok (.aload_n 0, 1) := dk_42 (dk_at dksX1_rowOf_0 18 rfl rfl)
theorem dX1_rowOf_19 : decode cX1_rowOf 19 = .ok (.getfield 193, 3) := dk_180 0 193 (dk_at dksX1_rowOf_0 19 rfl rfl)
theorem dX1_rowOf_22 : decode cX1_rowOf 22 = .ok (.iload_n 2, 1) := dk_28 (dk_at dksX1_rowOf_0 22 rfl rfl)
theorem dX1_rowOf_23 : decode cX1_rowOf 23 = .ok (.invokevirtual 9, 3) := dk_182 0 9 (dk_at dksX1_rowOf_1 0 rfl rfl)
theorem dX1_rowOf_26 : decode cX1_rowOf 26 = .ok (.checkcast 216, 3) := dk_192 0 216 (dk_at dksX1_rowOf_1 3 rfl rfl)
theorem dX1_rowOf_29 : decode cX1_rowOf 29 = .ok (.areturn, 1) := dk_176 (dk_at dksX1_rowOf_1 6 rfl rfl)
abbrev cX1_replace : ByteArray := prog_1_method_17_code
def yX1_replace : MethodName := ⟨RX1, "replace", "(LQueryHarbor$Source;LQueryHarbor$Row;)V"⟩
def dkwX1_replace_0 : List UInt8 := [43, 180, 0, 193, 43, 44, 180, 0, 248, 182, 0, 200, 44, 182, 0, 251, 87, 42, 43, 182, 0, 225, 177]
abbrev dktX1_replace_0 : List UInt8 := dkwX1_replace_0 ++ []
theorem dksX1_replace_0 : cX1_replace.data.toList.drop 0 = dktX1_replace_0 := by decide +kernel
theorem dX1_replace_0 : decode cX1_replace 0 = .ok (.aload_n 1, 1) := dk_43 (dk_at dksX1_replace_0 0 rfl rfl)
theorem dX1_replace_1 : decode cX1_replace 1 = .ok (.getfield 193, 3) := dk_180 0 193 (dk_at dksX1_replace_0 1 rfl rfl)
theorem dX1_replace_4 : decode cX1_replace 4 = .ok (.aload_n 1, 1) := dk_43 (dk_at dksX1_replace_0 4 rfl rfl)
theorem dX1_replace_5 : decode cX1_replace 5 = .ok (.aload_n 2, 1) := dk_44 (dk_at dksX1_replace_0 5 rfl rfl)
theorem dX1_replace_6 : decode cX1_replace 6 = .ok (.getfield 248, 3) := dk_180 0 248 (dk_at dksX1_replace_0 6 rfl rfl)
theorem dX1_replace_9 : decode cX1_replace 9 = .ok (.invokevirtual 200, 3) := dk_182 0 200 (dk_at dksX1_replace_0 9 rfl rfl)
theorem dX1_replace_12 : decode cX1_replace 12 = .ok (.aload_n 2, 1) := dk_44 (dk_at dksX1_replace_0 12 rfl rfl)
theorem dX1_replace_13 : decode cX1_replace 13 = .ok (.invokevirtual 251, 3) := dk_182 0 251 (dk_at dksX1_replace_0 13 rfl rfl)
theorem dX1_replace_16 : decode cX1_replace 16 = .ok (.pop, 1) := dk_87 (dk_at dksX1_replace_0 16 rfl rfl)
theorem dX1_replace_17 : decode cX1_replace 17 = .ok (.aload_n 0, 1) := dk_42 (dk_at dksX1_replace_0 17 rfl rfl)
theorem dX1_replace_18 : decode cX1_replace 18 = .ok (.aload_n 1, 1) := dk_43 (dk_at dksX1_replace_0 18 rfl rfl)
theorem dX1_replace_19 : decode cX1_replace 19 = .ok (.invokevirtual 225, 3) := dk_182 0 225 (dk_at dksX1_replace_0 19 rfl rfl)
theorem dX1_replace_22 : decode cX1_replace 22 = .ok (.return_, 1) := dk_177 (dk_at dksX1_replace_0 22 rfl rfl)
abbrev cX1_remove : ByteArray := prog_1_method_18_code
def yX1_remove : MethodName := ⟨RX1, "remove", "(II)I"⟩
def dkwX1_remove_1 : List UInt8 := [87, 42, 45, 182, 0, 225, 45, 180, 0, 193, 182, 0, 3, 172]
abbrev dktX1_remove_1 : List UInt8 := dkwX1_remove_1 ++ []
def dkwX1_remove_0 : List UInt8 := [42, 27, 182, 0, 179, 78, 45, 28, 184, 0, 229, 87, 45, 180, 0, 193, 45, 28, 182, 0, 200, 182, 0, 124]
abbrev dktX1_remove_0 : List UInt8 := dkwX1_remove_0 ++ dktX1_remove_1
theorem dksX1_remove_0 : cX1_remove.data.toList.drop 0 = dktX1_remove_0 := by decide +kernel
theorem dksX1_remove_1 : cX1_remove.data.toList.drop 24 = dktX1_remove_1 := dk_seg dksX1_remove_0 24 rfl rfl
theorem dX1_remove_0 : decode cX1_remove 0 = .ok (.aload_n 0, 1) := dk_42 (dk_at dksX1_remove_0 0 rfl rfl)
theorem dX1_remove_1 : decode cX1_remove 1 = .ok (.iload_n 1, 1) := dk_27 (dk_at dksX1_remove_0 1 rfl rfl)
theorem dX1_remove_2 : decode cX1_remove 2 = .ok (.invokevirtual 179, 3) := dk_182 0 179 (dk_at dksX1_remove_0 2 rfl rfl)
theorem dX1_remove_5 : decode cX1_remove 5 = .ok (.astore_n 3, 1) := dk_78 (dk_at dksX1_remove_0 5 rfl rfl)
theorem dX1_remove_6 : decode cX1_remove 6 = .ok (.aload_n 3, 1) := dk_45 (dk_at dksX1_remove_0 6 rfl rfl)
theorem dX1_remove_7 : decode cX1_remove 7 = .ok (.iload_n 2, 1) := dk_28 (dk_at dksX1_remove_0 7 rfl rfl)
theorem dX1_remove_8 : decode cX1_remove 8 = .ok (.invokestatic 229, 3) := dk_184 0 229 (dk_at dksX1_remove_0 8 rfl rfl)
theorem dX1_remove_11 : decode cX1_remove 11 = .ok (.pop, 1) := dk_87 (dk_at dksX1_remove_0 11 rfl rfl)
theorem dX1_remove_12 : decode cX1_remove 12 = .ok (.aload_n 3, 1) := dk_45 (dk_at dksX1_remove_0 12 rfl rfl)
theorem dX1_remove_13 : decode cX1_remove 13 = .ok (.getfield 193, 3) := dk_180 0 193 (dk_at dksX1_remove_0 13 rfl rfl)
theorem dX1_remove_16 : decode cX1_remove 16 = .ok (.aload_n 3, 1) := dk_45 (dk_at dksX1_remove_0 16 rfl rfl)
theorem dX1_remove_17 : decode cX1_remove 17 = .ok (.iload_n 2, 1) := dk_28 (dk_at dksX1_remove_0 17 rfl rfl)
theorem dX1_remove_18 : decode cX1_remove 18 = .ok (.invokevirtual 200, 3) := dk_182 0 200 (dk_at dksX1_remove_0 18 rfl rfl)
theorem dX1_remove_21 : decode cX1_remove 21 = .ok (.invokevirtual 124, 3) := dk_182 0 124 (dk_at dksX1_remove_0 21 rfl rfl)
theorem dX1_remove_24 : decode cX1_remove 24 = .ok (.pop, 1) := dk_87 (dk_at dksX1_remove_1 0 rfl rfl)
theorem dX1_remove_25 : decode cX1_remove 25 = .ok (.aload_n 0, 1) := dk_42 (dk_at dksX1_remove_1 1 rfl rfl)
theorem dX1_remove_26 : decode cX1_remove 26 = .ok (.aload_n 3, 1) := dk_45 (dk_at dksX1_remove_1 2 rfl rfl)
theorem dX1_remove_27 : decode cX1_remove 27 = .ok (.invokevirtual 225, 3) := dk_182 0 225 (dk_at dksX1_remove_1 3 rfl rfl)
theorem dX1_remove_30 : decode cX1_remove 30 = .ok (.aload_n 3, 1) := dk_45 (dk_at dksX1_remove_1 6 rfl rfl)
theorem dX1_remove_31 : decode cX1_remove 31 = .ok (.getfield 193, 3) := dk_180 0 193 (dk_at dksX1_remove_1 7 rfl rfl)
theorem dX1_remove_34 : decode cX1_remove 34 = .ok (.invokevirtual 3, 3) := dk_182 0 3 (dk_at dksX1_remove_1 10 rfl rfl)
theorem dX1_remove_37 : decode cX1_remove 37 = .ok (.ireturn, 1) := dk_172 (dk_at dksX1_remove_1 13 rfl rfl)
abbrev cX1_count : ByteArray := prog_1_method_19_code
def yX1_count : MethodName := ⟨RX1, "count", "(I)I"⟩
def dkwX1_count_0 : List UInt8 := [42, 27, 182, 0, 179, 180, 0, 193, 182, 0, 3, 172]
abbrev dktX1_count_0 : List UInt8 := dkwX1_count_0 ++ []
theorem dksX1_count_0 : cX1_count.data.toList.drop 0 = dktX1_count_0 := by decide +kernel
theorem dX1_count_0 : decode cX1_count 0 = .ok (.aload_n 0, 1) := dk_42 (dk_at dksX1_count_0 0 rfl rfl)
theorem dX1_count_1 : decode cX1_count 1 = .ok (.iload_n 1, 1) := dk_27 (dk_at dksX1_count_0 1 rfl rfl)
theorem dX1_count_2 : decode cX1_count 2 = .ok (.invokevirtual 179, 3) := dk_182 0 179 (dk_at dksX1_count_0 2 rfl rfl)
theorem dX1_count_5 : decode cX1_count 5 = .ok (.getfield 193, 3) := dk_180 0 193 (dk_at dksX1_count_0 5 rfl rfl)
theorem dX1_count_8 : decode cX1_count 8 = .ok (.invokevirtual 3, 3) := dk_182 0 3 (dk_at dksX1_count_0 8 rfl rfl)
theorem dX1_count_11 : decode cX1_count 11 = .ok (.ireturn, 1) := dk_172 (dk_at dksX1_count_0 11 rfl rfl)
abbrev cX1_cell : ByteArray := prog_1_method_20_code
def yX1_cell : MethodName := ⟨RX1, "cell", "(III)I"⟩
def dkwX1_cell_1 : List UInt8 := [180, 0, 140, 180, 0, 183, 185, 0, 233, 1, 0, 184, 0, 112, 46, 172]
abbrev dktX1_cell_1 : List UInt8 := dkwX1_cell_1 ++ []
def dkwX1_cell_0 : List UInt8 := [42, 27, 182, 0, 179, 58, 4, 25, 4, 28, 184, 0, 229, 58, 5, 25, 5, 180, 0, 244, 29, 25, 4]
abbrev dktX1_cell_0 : List UInt8 := dkwX1_cell_0 ++ dktX1_cell_1
theorem dksX1_cell_0 : cX1_cell.data.toList.drop 0 = dktX1_cell_0 := by decide +kernel
theorem dksX1_cell_1 : cX1_cell.data.toList.drop 23 = dktX1_cell_1 := dk_seg dksX1_cell_0 23 rfl rfl
theorem dX1_cell_0 : decode cX1_cell 0 = .ok (.aload_n 0, 1) := dk_42 (dk_at dksX1_cell_0 0 rfl rfl)
theorem dX1_cell_1 : decode cX1_cell 1 = .ok (.iload_n 1, 1) := dk_27 (dk_at dksX1_cell_0 1 rfl rfl)
theorem dX1_cell_2 : decode cX1_cell 2 = .ok (.invokevirtual 179, 3) := dk_182 0 179 (dk_at dksX1_cell_0 2 rfl rfl)
theorem dX1_cell_5 : decode cX1_cell 5 = .ok (.astore 4, 2) := dk_58 4 (dk_at dksX1_cell_0 5 rfl rfl)
theorem dX1_cell_7 : decode cX1_cell 7 = .ok (.aload 4, 2) := dk_25 4 (dk_at dksX1_cell_0 7 rfl rfl)
theorem dX1_cell_9 : decode cX1_cell 9 = .ok (.iload_n 2, 1) := dk_28 (dk_at dksX1_cell_0 9 rfl rfl)
theorem dX1_cell_10 : decode cX1_cell 10 = .ok (.invokestatic 229, 3) := dk_184 0 229 (dk_at dksX1_cell_0 10 rfl rfl)
theorem dX1_cell_13 : decode cX1_cell 13 = .ok (.astore 5, 2) := dk_58 5 (dk_at dksX1_cell_0 13 rfl rfl)
theorem dX1_cell_15 : decode cX1_cell 15 = .ok (.aload 5, 2) := dk_25 5 (dk_at dksX1_cell_0 15 rfl rfl)
theorem dX1_cell_17 : decode cX1_cell 17 = .ok (.getfield 244, 3) := dk_180 0 244 (dk_at dksX1_cell_0 17 rfl rfl)
theorem dX1_cell_20 : decode cX1_cell 20 = .ok (.iload_n 3, 1) := dk_29 (dk_at dksX1_cell_0 20 rfl rfl)
theorem dX1_cell_21 : decode cX1_cell 21 = .ok (.aload 4, 2) := dk_25 4 (dk_at dksX1_cell_0 21 rfl rfl)
theorem dX1_cell_23 : decode cX1_cell 23 = .ok (.getfield 140, 3) := dk_180 0 140 (dk_at dksX1_cell_1 0 rfl rfl)
theorem dX1_cell_26 : decode cX1_cell 26 = .ok (.getfield 183, 3) := dk_180 0 183 (dk_at dksX1_cell_1 3 rfl rfl)
theorem dX1_cell_29 : decode cX1_cell 29 = .ok (.invokeinterface 233 1, 5) := by decide +kernel
theorem dX1_cell_34 : decode cX1_cell 34 = .ok (.invokestatic 112, 3) := dk_184 0 112 (dk_at dksX1_cell_1 11 rfl rfl)
theorem dX1_cell_37 : decode cX1_cell 37 = .ok (.iaload, 1) := dk_46 (dk_at dksX1_cell_1 14 rfl rfl)
theorem dX1_cell_38 : decode cX1_cell 38 = .ok (.ireturn, 1) := dk_172 (dk_at dksX1_cell_1 15 rfl rfl)
abbrev cX1_setPace : ByteArray := prog_1_method_23_code
def yX1_setPace : MethodName := ⟨RX1, "setPace", "(III)I"⟩
def dkwX1_setPace_1 : List UInt8 := [180, 1, 6, 54, 5, 25, 4, 28, 181, 1, 6, 25, 4, 29, 181, 0, 169, 21, 5, 172]
abbrev dktX1_setPace_1 : List UInt8 := dkwX1_setPace_1 ++ []
def dkwX1_setPace_0 : List UInt8 := [42, 27, 182, 0, 255, 58, 4, 28, 3, 16, 30, 184, 1, 3, 29, 3, 16, 60, 184, 1, 3, 25, 4]
abbrev dktX1_setPace_0 : List UInt8 := dkwX1_setPace_0 ++ dktX1_setPace_1
theorem dksX1_setPace_0 : cX1_setPace.data.toList.drop 0 = dktX1_setPace_0 := by decide +kernel
theorem dksX1_setPace_1 : cX1_setPace.data.toList.drop 23 = dktX1_setPace_1 := dk_seg dksX1_setPace_0 23 rfl rfl
theorem dX1_setPace_0 : decode cX1_setPace 0 = .ok (.aload_n 0, 1) := dk_42 (dk_at dksX1_setPace_0 0 rfl rfl)
theorem dX1_setPace_1 : decode cX1_setPace 1 = .ok (.iload_n 1, 1) := dk_27 (dk_at dksX1_setPace_0 1 rfl rfl)
theorem dX1_setPace_2 : decode cX1_setPace 2 = .ok (.invokevirtual 255, 3) := dk_182 0 255 (dk_at dksX1_setPace_0 2 rfl rfl)
theorem dX1_setPace_5 : decode cX1_setPace 5 = .ok (.astore 4, 2) := dk_58 4 (dk_at dksX1_setPace_0 5 rfl rfl)
theorem dX1_setPace_7 : decode cX1_setPace 7 = .ok (.iload_n 2, 1) := dk_28 (dk_at dksX1_setPace_0 7 rfl rfl)
theorem dX1_setPace_8 : decode cX1_setPace 8 = .ok (.iconst 0, 1) := dk_3 (dk_at dksX1_setPace_0 8 rfl rfl)
theorem dX1_setPace_9 : decode cX1_setPace 9 = .ok (.bipush 30, 2) := dk_16 30 (dk_at dksX1_setPace_0 9 rfl rfl)
theorem dX1_setPace_11 : decode cX1_setPace 11 = .ok (.invokestatic 259, 3) := dk_184 1 3 (dk_at dksX1_setPace_0 11 rfl rfl)
theorem dX1_setPace_14 : decode cX1_setPace 14 = .ok (.iload_n 3, 1) := dk_29 (dk_at dksX1_setPace_0 14 rfl rfl)
theorem dX1_setPace_15 : decode cX1_setPace 15 = .ok (.iconst 0, 1) := dk_3 (dk_at dksX1_setPace_0 15 rfl rfl)
theorem dX1_setPace_16 : decode cX1_setPace 16 = .ok (.bipush 60, 2) := dk_16 60 (dk_at dksX1_setPace_0 16 rfl rfl)
theorem dX1_setPace_18 : decode cX1_setPace 18 = .ok (.invokestatic 259, 3) := dk_184 1 3 (dk_at dksX1_setPace_0 18 rfl rfl)
theorem dX1_setPace_21 : decode cX1_setPace 21 = .ok (.aload 4, 2) := dk_25 4 (dk_at dksX1_setPace_0 21 rfl rfl)
theorem dX1_setPace_23 : decode cX1_setPace 23 = .ok (.getfield 262, 3) := dk_180 1 6 (dk_at dksX1_setPace_1 0 rfl rfl)
theorem dX1_setPace_26 : decode cX1_setPace 26 = .ok (.istore 5, 2) := dk_54 5 (dk_at dksX1_setPace_1 3 rfl rfl)
theorem dX1_setPace_28 : decode cX1_setPace 28 = .ok (.aload 4, 2) := dk_25 4 (dk_at dksX1_setPace_1 5 rfl rfl)
theorem dX1_setPace_30 : decode cX1_setPace 30 = .ok (.iload_n 2, 1) := dk_28 (dk_at dksX1_setPace_1 7 rfl rfl)
theorem dX1_setPace_31 : decode cX1_setPace 31 = .ok (.putfield 262, 3) := dk_181 1 6 (dk_at dksX1_setPace_1 8 rfl rfl)
theorem dX1_setPace_34 : decode cX1_setPace 34 = .ok (.aload 4, 2) := dk_25 4 (dk_at dksX1_setPace_1 11 rfl rfl)
theorem dX1_setPace_36 : decode cX1_setPace 36 = .ok (.iload_n 3, 1) := dk_29 (dk_at dksX1_setPace_1 13 rfl rfl)
theorem dX1_setPace_37 : decode cX1_setPace 37 = .ok (.putfield 169, 3) := dk_181 0 169 (dk_at dksX1_setPace_1 14 rfl rfl)
theorem dX1_setPace_40 : decode cX1_setPace 40 = .ok (.iload 5, 2) := dk_21 5 (dk_at dksX1_setPace_1 17 rfl rfl)
theorem dX1_setPace_42 : decode cX1_setPace 42 = .ok (.ireturn, 1) := dk_172 (dk_at dksX1_setPace_1 19 rfl rfl)
abbrev cX1_lineAt : ByteArray := prog_1_method_10_code
def yX1_lineAt : MethodName := ⟨RX1, "lineAt", "(I)LQueryHarbor$Line;"⟩
def dkwX1_lineAt_0 : List UInt8 := [42, 180, 0, 39, 27, 6, 184, 0, 112, 50, 176]
abbrev dktX1_lineAt_0 : List UInt8 := dkwX1_lineAt_0 ++ []
theorem dksX1_lineAt_0 : cX1_lineAt.data.toList.drop 0 = dktX1_lineAt_0 := by decide +kernel
theorem dX1_lineAt_0 : decode cX1_lineAt 0 = .ok (.aload_n 0, 1) := dk_42 (dk_at dksX1_lineAt_0 0 rfl rfl)
theorem dX1_lineAt_1 : decode cX1_lineAt 1 = .ok (.getfield 39, 3) := dk_180 0 39 (dk_at dksX1_lineAt_0 1 rfl rfl)
theorem dX1_lineAt_4 : decode cX1_lineAt 4 = .ok (.iload_n 1, 1) := dk_27 (dk_at dksX1_lineAt_0 4 rfl rfl)
theorem dX1_lineAt_5 : decode cX1_lineAt 5 = .ok (.iconst 3, 1) := dk_6 (dk_at dksX1_lineAt_0 5 rfl rfl)
theorem dX1_lineAt_6 : decode cX1_lineAt 6 = .ok (.invokestatic 112, 3) := dk_184 0 112 (dk_at dksX1_lineAt_0 6 rfl rfl)
theorem dX1_lineAt_9 : decode cX1_lineAt 9 = .ok (.aaload, 1) := dk_50 (dk_at dksX1_lineAt_0 9 rfl rfl)
theorem dX1_lineAt_10 : decode cX1_lineAt 10 = .ok (.areturn, 1) := dk_176 (dk_at dksX1_lineAt_0 10 rfl rfl)
abbrev cX1_inRange : ByteArray := prog_1_method_7_code
def yX1_inRange : MethodName := ⟨RX1, "inRange", "(III)V"⟩
def dkwX1_inRange_0 : List UInt8 := [26, 27, 161, 0, 12, 26, 28, 163, 0, 7, 4, 167, 0, 4, 3, 184, 0, 103, 177]
abbrev dktX1_inRange_0 : List UInt8 := dkwX1_inRange_0 ++ []
theorem dksX1_inRange_0 : cX1_inRange.data.toList.drop 0 = dktX1_inRange_0 := by decide +kernel
theorem dX1_inRange_0 : decode cX1_inRange 0 = .ok (.iload_n 0, 1) := dk_26 (dk_at dksX1_inRange_0 0 rfl rfl)
theorem dX1_inRange_1 : decode cX1_inRange 1 = .ok (.iload_n 1, 1) := dk_27 (dk_at dksX1_inRange_0 1 rfl rfl)
theorem dX1_inRange_2 : decode cX1_inRange 2 = .ok (.if_icmp .lt 12, 3) := dk_161 0 12 (dk_at dksX1_inRange_0 2 rfl rfl)
theorem dX1_inRange_5 : decode cX1_inRange 5 = .ok (.iload_n 0, 1) := dk_26 (dk_at dksX1_inRange_0 5 rfl rfl)
theorem dX1_inRange_6 : decode cX1_inRange 6 = .ok (.iload_n 2, 1) := dk_28 (dk_at dksX1_inRange_0 6 rfl rfl)
theorem dX1_inRange_7 : decode cX1_inRange 7 = .ok (.if_icmp .gt 7, 3) := dk_163 0 7 (dk_at dksX1_inRange_0 7 rfl rfl)
theorem dX1_inRange_10 : decode cX1_inRange 10 = .ok (.iconst 1, 1) := dk_4 (dk_at dksX1_inRange_0 10 rfl rfl)
theorem dX1_inRange_11 : decode cX1_inRange 11 = .ok (.goto 4, 3) := dk_167 0 4 (dk_at dksX1_inRange_0 11 rfl rfl)
theorem dX1_inRange_14 : decode cX1_inRange 14 = .ok (.iconst 0, 1) := dk_3 (dk_at dksX1_inRange_0 14 rfl rfl)
theorem dX1_inRange_15 : decode cX1_inRange 15 = .ok (.invokestatic 103, 3) := dk_184 0 103 (dk_at dksX1_inRange_0 15 rfl rfl)
theorem dX1_inRange_18 : decode cX1_inRange 18 = .ok (.return_, 1) := dk_177 (dk_at dksX1_inRange_0 18 rfl rfl)
abbrev cX1_setBounds : ByteArray := prog_1_method_24_code
def yX1_setBounds : MethodName := ⟨RX1, "setBounds", "(III)I"⟩
def dkwX1_setBounds_1 : List UInt8 := [180, 1, 9, 54, 5, 25, 4, 28, 181, 1, 9, 25, 4, 29, 181, 1, 12, 21, 5, 172]
abbrev dktX1_setBounds_1 : List UInt8 := dkwX1_setBounds_1 ++ []
def dkwX1_setBounds_0 : List UInt8 := [42, 27, 182, 0, 255, 58, 4, 28, 4, 16, 20, 184, 1, 3, 29, 3, 16, 12, 184, 1, 3, 25, 4]
abbrev dktX1_setBounds_0 : List UInt8 := dkwX1_setBounds_0 ++ dktX1_setBounds_1
theorem dksX1_setBounds_0 : cX1_setBounds.data.toList.drop 0 = dktX1_setBounds_0 := by decide +kernel
theorem dksX1_setBounds_1 : cX1_setBounds.data.toList.drop 23 = dktX1_setBounds_1 := dk_seg dksX1_setBounds_0 23 rfl rfl
theorem dX1_setBounds_0 : decode cX1_setBounds 0 = .ok (.aload_n 0, 1) := dk_42 (dk_at dksX1_setBounds_0 0 rfl rfl)
theorem dX1_setBounds_1 : decode cX1_setBounds 1 = .ok (.iload_n 1, 1) := dk_27 (dk_at dksX1_setBounds_0 1 rfl rfl)
theorem dX1_setBounds_2 : decode cX1_setBounds 2 = .ok (.invokevirtual 255, 3) := dk_182 0 255 (dk_at dksX1_setBounds_0 2 rfl rfl)
theorem dX1_setBounds_5 : decode cX1_setBounds 5 = .ok (.astore 4, 2) := dk_58 4 (dk_at dksX1_setBounds_0 5 rfl rfl)
theorem dX1_setBounds_7 : decode cX1_setBounds 7 = .ok (.iload_n 2, 1) := dk_28 (dk_at dksX1_setBounds_0 7 rfl rfl)
theorem dX1_setBounds_8 : decode cX1_setBounds 8 = .ok (.iconst 1, 1) := dk_4 (dk_at dksX1_setBounds_0 8 rfl rfl)
theorem dX1_setBounds_9 : decode cX1_setBounds 9 = .ok (.bipush 20, 2) := dk_16 20 (dk_at dksX1_setBounds_0 9 rfl rfl)
theorem dX1_setBounds_11 : decode cX1_setBounds 11 = .ok (.invokestatic 259, 3) := dk_184 1 3 (dk_at dksX1_setBounds_0 11 rfl rfl)
theorem dX1_setBounds_14 : decode cX1_setBounds 14 = .ok (.iload_n 3, 1) := dk_29 (dk_at dksX1_setBounds_0 14 rfl rfl)
theorem dX1_setBounds_15 : decode cX1_setBounds 15 = .ok (.iconst 0, 1) := dk_3 (dk_at dksX1_setBounds_0 15 rfl rfl)
theorem dX1_setBounds_16 : decode cX1_setBounds 16 = .ok (.bipush 12, 2) := dk_16 12 (dk_at dksX1_setBounds_0 16 rfl rfl)
theorem dX1_setBounds_18 : decode cX1_setBounds 18 = .ok (.invokestatic 259, 3) := dk_184 1 3 (dk_at dksX1_setBounds_0 18 rfl rfl)
theorem dX1_setBounds_21 : decode cX1_setBounds 21 = .ok (.aload 4, 2) := dk_25 4 (dk_at dksX1_setBounds_0 21 rfl rfl)
theorem dX1_setBounds_23 : decode cX1_setBounds 23 = .ok (.getfield 265, 3) := dk_180 1 9 (dk_at dksX1_setBounds_1 0 rfl rfl)
theorem dX1_setBounds_26 : decode cX1_setBounds 26 = .ok (.istore 5, 2) := dk_54 5 (dk_at dksX1_setBounds_1 3 rfl rfl)
theorem dX1_setBounds_28 : decode cX1_setBounds 28 = .ok (.aload 4, 2) := dk_25 4 (dk_at dksX1_setBounds_1 5 rfl rfl)
theorem dX1_setBounds_30 : decode cX1_setBounds 30 = .ok (.iload_n 2, 1) := dk_28 (dk_at dksX1_setBounds_1 7 rfl rfl)
theorem dX1_setBounds_31 : decode cX1_setBounds 31 = .ok (.putfield 265, 3) := dk_181 1 9 (dk_at dksX1_setBounds_1 8 rfl rfl)
theorem dX1_setBounds_34 : decode cX1_setBounds 34 = .ok (.aload 4, 2) := dk_25 4 (dk_at dksX1_setBounds_1 11 rfl rfl)
theorem dX1_setBounds_36 : decode cX1_setBounds 36 = .ok (.iload_n 3, 1) := dk_29 (dk_at dksX1_setBounds_1 13 rfl rfl)
theorem dX1_setBounds_37 : decode cX1_setBounds 37 = .ok (.putfield 268, 3) := dk_181 1 12 (dk_at dksX1_setBounds_1 14 rfl rfl)
theorem dX1_setBounds_40 : decode cX1_setBounds 40 = .ok (.iload 5, 2) := dk_21 5 (dk_at dksX1_setBounds_1 17 rfl rfl)
theorem dX1_setBounds_42 : decode cX1_setBounds 42 = .ok (.ireturn, 1) := dk_172 (dk_at dksX1_setBounds_1 19 rfl rfl)
abbrev cX1_setLease : ByteArray := prog_1_method_25_code
def yX1_setLease : MethodName := ⟨RX1, "setLease", "(II)I"⟩
def dkwX1_setLease_1 : List UInt8 := [181, 0, 144, 42, 42, 180, 0, 116, 182, 0, 175, 21, 4, 172]
abbrev dktX1_setLease_1 : List UInt8 := dkwX1_setLease_1 ++ []
def dkwX1_setLease_0 : List UInt8 := [42, 27, 182, 0, 255, 78, 28, 3, 17, 0, 200, 184, 1, 3, 45, 180, 0, 144, 54, 4, 45, 28]
abbrev dktX1_setLease_0 : List UInt8 := dkwX1_setLease_0 ++ dktX1_setLease_1
theorem dksX1_setLease_0 : cX1_setLease.data.toList.drop 0 = dktX1_setLease_0 := by decide +kernel
theorem dksX1_setLease_1 : cX1_setLease.data.toList.drop 22 = dktX1_setLease_1 := dk_seg dksX1_setLease_0 22 rfl rfl
theorem dX1_setLease_0 : decode cX1_setLease 0 = .ok (.aload_n 0, 1) := dk_42 (dk_at dksX1_setLease_0 0 rfl rfl)
theorem dX1_setLease_1 : decode cX1_setLease 1 = .ok (.iload_n 1, 1) := dk_27 (dk_at dksX1_setLease_0 1 rfl rfl)
theorem dX1_setLease_2 : decode cX1_setLease 2 = .ok (.invokevirtual 255, 3) := dk_182 0 255 (dk_at dksX1_setLease_0 2 rfl rfl)
theorem dX1_setLease_5 : decode cX1_setLease 5 = .ok (.astore_n 3, 1) := dk_78 (dk_at dksX1_setLease_0 5 rfl rfl)
theorem dX1_setLease_6 : decode cX1_setLease 6 = .ok (.iload_n 2, 1) := dk_28 (dk_at dksX1_setLease_0 6 rfl rfl)
theorem dX1_setLease_7 : decode cX1_setLease 7 = .ok (.iconst 0, 1) := dk_3 (dk_at dksX1_setLease_0 7 rfl rfl)
theorem dX1_setLease_8 : decode cX1_setLease 8 = .ok (.sipush 200, 3) := dk_17 0 200 (dk_at dksX1_setLease_0 8 rfl rfl)
theorem dX1_setLease_11 : decode cX1_setLease 11 = .ok (.invokestatic 259, 3) := dk_184 1 3 (dk_at dksX1_setLease_0 11 rfl rfl)
theorem dX1_setLease_14 : decode cX1_setLease 14 = .ok (.aload_n 3, 1) := dk_45 (dk_at dksX1_setLease_0 14 rfl rfl)
theorem dX1_setLease_15 : decode cX1_setLease 15 = .ok (.getfield 144, 3) := dk_180 0 144 (dk_at dksX1_setLease_0 15 rfl rfl)
theorem dX1_setLease_18 : decode cX1_setLease 18 = .ok (.istore 4, 2) := dk_54 4 (dk_at dksX1_setLease_0 18 rfl rfl)
theorem dX1_setLease_20 : decode cX1_setLease 20 = .ok (.aload_n 3, 1) := dk_45 (dk_at dksX1_setLease_0 20 rfl rfl)
theorem dX1_setLease_21 : decode cX1_setLease 21 = .ok (.iload_n 2, 1) := dk_28 (dk_at dksX1_setLease_0 21 rfl rfl)
theorem dX1_setLease_22 : decode cX1_setLease 22 = .ok (.putfield 144, 3) := dk_181 0 144 (dk_at dksX1_setLease_1 0 rfl rfl)
theorem dX1_setLease_25 : decode cX1_setLease 25 = .ok (.aload_n 0, 1) := dk_42 (dk_at dksX1_setLease_1 3 rfl rfl)
theorem dX1_setLease_26 : decode cX1_setLease 26 = .ok (.aload_n 0, 1) := dk_42 (dk_at dksX1_setLease_1 4 rfl rfl)
theorem dX1_setLease_27 : decode cX1_setLease 27 = .ok (.getfield 116, 3) := dk_180 0 116 (dk_at dksX1_setLease_1 5 rfl rfl)
theorem dX1_setLease_30 : decode cX1_setLease 30 = .ok (.invokevirtual 175, 3) := dk_182 0 175 (dk_at dksX1_setLease_1 8 rfl rfl)
theorem dX1_setLease_33 : decode cX1_setLease 33 = .ok (.iload 4, 2) := dk_21 4 (dk_at dksX1_setLease_1 11 rfl rfl)
theorem dX1_setLease_35 : decode cX1_setLease 35 = .ok (.ireturn, 1) := dk_172 (dk_at dksX1_setLease_1 13 rfl rfl)
abbrev cX1_fail : ByteArray := prog_1_method_26_code
def yX1_fail : MethodName := ⟨RX1, "fail", "(IIZ)I"⟩
def dkwX1_fail_1 : List UInt8 := [181, 1, 15, 25, 4, 29, 181, 1, 18, 21, 5, 172]
abbrev dktX1_fail_1 : List UInt8 := dkwX1_fail_1 ++ []
def dkwX1_fail_0 : List UInt8 := [42, 27, 182, 0, 255, 58, 4, 28, 3, 16, 20, 184, 1, 3, 25, 4, 180, 1, 15, 54, 5, 25, 4, 28]
abbrev dktX1_fail_0 : List UInt8 := dkwX1_fail_0 ++ dktX1_fail_1
theorem dksX1_fail_0 : cX1_fail.data.toList.drop 0 = dktX1_fail_0 := by decide +kernel
theorem dksX1_fail_1 : cX1_fail.data.toList.drop 24 = dktX1_fail_1 := dk_seg dksX1_fail_0 24 rfl rfl
theorem dX1_fail_0 : decode cX1_fail 0 = .ok (.aload_n 0, 1) := dk_42 (dk_at dksX1_fail_0 0 rfl rfl)
theorem dX1_fail_1 : decode cX1_fail 1 = .ok (.iload_n 1, 1) := dk_27 (dk_at dksX1_fail_0 1 rfl rfl)
theorem dX1_fail_2 : decode cX1_fail 2 = .ok (.invokevirtual 255, 3) := dk_182 0 255 (dk_at dksX1_fail_0 2 rfl rfl)
theorem dX1_fail_5 : decode cX1_fail 5 = .ok (.astore 4, 2) := dk_58 4 (dk_at dksX1_fail_0 5 rfl rfl)
theorem dX1_fail_7 : decode cX1_fail 7 = .ok (.iload_n 2, 1) := dk_28 (dk_at dksX1_fail_0 7 rfl rfl)
theorem dX1_fail_8 : decode cX1_fail 8 = .ok (.iconst 0, 1) := dk_3 (dk_at dksX1_fail_0 8 rfl rfl)
theorem dX1_fail_9 : decode cX1_fail 9 = .ok (.bipush 20, 2) := dk_16 20 (dk_at dksX1_fail_0 9 rfl rfl)
theorem dX1_fail_11 : decode cX1_fail 11 = .ok (.invokestatic 259, 3) := dk_184 1 3 (dk_at dksX1_fail_0 11 rfl rfl)
theorem dX1_fail_14 : decode cX1_fail 14 = .ok (.aload 4, 2) := dk_25 4 (dk_at dksX1_fail_0 14 rfl rfl)
theorem dX1_fail_16 : decode cX1_fail 16 = .ok (.getfield 271, 3) := dk_180 1 15 (dk_at dksX1_fail_0 16 rfl rfl)
theorem dX1_fail_19 : decode cX1_fail 19 = .ok (.istore 5, 2) := dk_54 5 (dk_at dksX1_fail_0 19 rfl rfl)
theorem dX1_fail_21 : decode cX1_fail 21 = .ok (.aload 4, 2) := dk_25 4 (dk_at dksX1_fail_0 21 rfl rfl)
theorem dX1_fail_23 : decode cX1_fail 23 = .ok (.iload_n 2, 1) := dk_28 (dk_at dksX1_fail_0 23 rfl rfl)
theorem dX1_fail_24 : decode cX1_fail 24 = .ok (.putfield 271, 3) := dk_181 1 15 (dk_at dksX1_fail_1 0 rfl rfl)
theorem dX1_fail_27 : decode cX1_fail 27 = .ok (.aload 4, 2) := dk_25 4 (dk_at dksX1_fail_1 3 rfl rfl)
theorem dX1_fail_29 : decode cX1_fail 29 = .ok (.iload_n 3, 1) := dk_29 (dk_at dksX1_fail_1 5 rfl rfl)
theorem dX1_fail_30 : decode cX1_fail 30 = .ok (.putfield 274, 3) := dk_181 1 18 (dk_at dksX1_fail_1 6 rfl rfl)
theorem dX1_fail_33 : decode cX1_fail 33 = .ok (.iload 5, 2) := dk_21 5 (dk_at dksX1_fail_1 9 rfl rfl)
theorem dX1_fail_35 : decode cX1_fail 35 = .ok (.ireturn, 1) := dk_172 (dk_at dksX1_fail_1 11 rfl rfl)
abbrev cX1_forbid : ByteArray := prog_1_method_27_code
def yX1_forbid : MethodName := ⟨RX1, "forbid", "(IIZ)Z"⟩
def dkwX1_forbid_1 : List UInt8 := [180, 0, 51, 27, 50, 28, 29, 84, 21, 4, 172]
abbrev dktX1_forbid_1 : List UInt8 := dkwX1_forbid_1 ++ []
def dkwX1_forbid_0 : List UInt8 := [27, 16, 6, 184, 0, 112, 87, 28, 6, 184, 0, 112, 87, 42, 180, 0, 51, 27, 50, 28, 51, 54, 4, 42]
abbrev dktX1_forbid_0 : List UInt8 := dkwX1_forbid_0 ++ dktX1_forbid_1
theorem dksX1_forbid_0 : cX1_forbid.data.toList.drop 0 = dktX1_forbid_0 := by decide +kernel
theorem dksX1_forbid_1 : cX1_forbid.data.toList.drop 24 = dktX1_forbid_1 := dk_seg dksX1_forbid_0 24 rfl rfl
theorem dX1_forbid_0 : decode cX1_forbid 0 = .ok (.iload_n 1, 1) := dk_27 (dk_at dksX1_forbid_0 0 rfl rfl)
theorem dX1_forbid_1 : decode cX1_forbid 1 = .ok (.bipush 6, 2) := dk_16 6 (dk_at dksX1_forbid_0 1 rfl rfl)
theorem dX1_forbid_3 : decode cX1_forbid 3 = .ok (.invokestatic 112, 3) := dk_184 0 112 (dk_at dksX1_forbid_0 3 rfl rfl)
theorem dX1_forbid_6 : decode cX1_forbid 6 = .ok (.pop, 1) := dk_87 (dk_at dksX1_forbid_0 6 rfl rfl)
theorem dX1_forbid_7 : decode cX1_forbid 7 = .ok (.iload_n 2, 1) := dk_28 (dk_at dksX1_forbid_0 7 rfl rfl)
theorem dX1_forbid_8 : decode cX1_forbid 8 = .ok (.iconst 3, 1) := dk_6 (dk_at dksX1_forbid_0 8 rfl rfl)
theorem dX1_forbid_9 : decode cX1_forbid 9 = .ok (.invokestatic 112, 3) := dk_184 0 112 (dk_at dksX1_forbid_0 9 rfl rfl)
theorem dX1_forbid_12 : decode cX1_forbid 12 = .ok (.pop, 1) := dk_87 (dk_at dksX1_forbid_0 12 rfl rfl)
theorem dX1_forbid_13 : decode cX1_forbid 13 = .ok (.aload_n 0, 1) := dk_42 (dk_at dksX1_forbid_0 13 rfl rfl)
theorem dX1_forbid_14 : decode cX1_forbid 14 = .ok (.getfield 51, 3) := dk_180 0 51 (dk_at dksX1_forbid_0 14 rfl rfl)
theorem dX1_forbid_17 : decode cX1_forbid 17 = .ok (.iload_n 1, 1) := dk_27 (dk_at dksX1_forbid_0 17 rfl rfl)
theorem dX1_forbid_18 : decode cX1_forbid 18 = .ok (.aaload, 1) := dk_50 (dk_at dksX1_forbid_0 18 rfl rfl)
theorem dX1_forbid_19 : decode cX1_forbid 19 = .ok (.iload_n 2, 1) := dk_28 (dk_at dksX1_forbid_0 19 rfl rfl)
theorem dX1_forbid_20 : decode cX1_forbid 20 = .ok (.baload, 1) := dk_51 (dk_at dksX1_forbid_0 20 rfl rfl)
theorem dX1_forbid_21 : decode cX1_forbid 21 = .ok (.istore 4, 2) := dk_54 4 (dk_at dksX1_forbid_0 21 rfl rfl)
theorem dX1_forbid_23 : decode cX1_forbid 23 = .ok (.aload_n 0, 1) := dk_42 (dk_at dksX1_forbid_0 23 rfl rfl)
theorem dX1_forbid_24 : decode cX1_forbid 24 = .ok (.getfield 51, 3) := dk_180 0 51 (dk_at dksX1_forbid_1 0 rfl rfl)
theorem dX1_forbid_27 : decode cX1_forbid 27 = .ok (.iload_n 1, 1) := dk_27 (dk_at dksX1_forbid_1 3 rfl rfl)
theorem dX1_forbid_28 : decode cX1_forbid 28 = .ok (.aaload, 1) := dk_50 (dk_at dksX1_forbid_1 4 rfl rfl)
theorem dX1_forbid_29 : decode cX1_forbid 29 = .ok (.iload_n 2, 1) := dk_28 (dk_at dksX1_forbid_1 5 rfl rfl)
theorem dX1_forbid_30 : decode cX1_forbid 30 = .ok (.iload_n 3, 1) := dk_29 (dk_at dksX1_forbid_1 6 rfl rfl)
theorem dX1_forbid_31 : decode cX1_forbid 31 = .ok (.bastore, 1) := dk_84 (dk_at dksX1_forbid_1 7 rfl rfl)
theorem dX1_forbid_32 : decode cX1_forbid 32 = .ok (.iload 4, 2) := dk_21 4 (dk_at dksX1_forbid_1 8 rfl rfl)
theorem dX1_forbid_34 : decode cX1_forbid 34 = .ok (.ireturn, 1) := dk_172 (dk_at dksX1_forbid_1 10 rfl rfl)
abbrev cX1_pass : ByteArray := prog_1_method_28_code
def yX1_pass : MethodName := ⟨RX1, "pass", "(I)I"⟩
def dkwX1_pass_0 : List UInt8 := [27, 4, 16, 100, 184, 1, 3, 42, 42, 180, 0, 116, 27, 96, 182, 0, 175, 42, 180, 0, 116, 172]
abbrev dktX1_pass_0 : List UInt8 := dkwX1_pass_0 ++ []
theorem dksX1_pass_0 : cX1_pass.data.toList.drop 0 = dktX1_pass_0 := by decide +kernel
theorem dX1_pass_0 : decode cX1_pass 0 = .ok (.iload_n 1, 1) := dk_27 (dk_at dksX1_pass_0 0 rfl rfl)
theorem dX1_pass_1 : decode cX1_pass 1 = .ok (.iconst 1, 1) := dk_4 (dk_at dksX1_pass_0 1 rfl rfl)
theorem dX1_pass_2 : decode cX1_pass 2 = .ok (.bipush 100, 2) := dk_16 100 (dk_at dksX1_pass_0 2 rfl rfl)
theorem dX1_pass_4 : decode cX1_pass 4 = .ok (.invokestatic 259, 3) := dk_184 1 3 (dk_at dksX1_pass_0 4 rfl rfl)
theorem dX1_pass_7 : decode cX1_pass 7 = .ok (.aload_n 0, 1) := dk_42 (dk_at dksX1_pass_0 7 rfl rfl)
theorem dX1_pass_8 : decode cX1_pass 8 = .ok (.aload_n 0, 1) := dk_42 (dk_at dksX1_pass_0 8 rfl rfl)
theorem dX1_pass_9 : decode cX1_pass 9 = .ok (.getfield 116, 3) := dk_180 0 116 (dk_at dksX1_pass_0 9 rfl rfl)
theorem dX1_pass_12 : decode cX1_pass 12 = .ok (.iload_n 1, 1) := dk_27 (dk_at dksX1_pass_0 12 rfl rfl)
theorem dX1_pass_13 : decode cX1_pass 13 = .ok (.iadd, 1) := dk_96 (dk_at dksX1_pass_0 13 rfl rfl)
theorem dX1_pass_14 : decode cX1_pass 14 = .ok (.invokevirtual 175, 3) := dk_182 0 175 (dk_at dksX1_pass_0 14 rfl rfl)
theorem dX1_pass_17 : decode cX1_pass 17 = .ok (.aload_n 0, 1) := dk_42 (dk_at dksX1_pass_0 17 rfl rfl)
theorem dX1_pass_18 : decode cX1_pass 18 = .ok (.getfield 116, 3) := dk_180 0 116 (dk_at dksX1_pass_0 18 rfl rfl)
theorem dX1_pass_21 : decode cX1_pass 21 = .ok (.ireturn, 1) := dk_172 (dk_at dksX1_pass_0 21 rfl rfl)
abbrev cX1_seat : ByteArray := prog_1_method_32_code
def yX1_seat : MethodName := ⟨RX1, "seat", "(I)I"⟩
def dkwX1_seat_2 : List UInt8 := [172]
abbrev dktX1_seat_2 : List UInt8 := dkwX1_seat_2 ++ []
def dkwX1_seat_1 : List UInt8 := [184, 0, 207, 42, 180, 0, 62, 27, 184, 0, 159, 182, 0, 165, 87, 42, 180, 0, 62, 182, 0, 3, 4, 100]
abbrev dktX1_seat_1 : List UInt8 := dkwX1_seat_1 ++ dktX1_seat_2
def dkwX1_seat_0 : List UInt8 := [27, 16, 6, 184, 0, 112, 87, 42, 180, 0, 62, 182, 0, 3, 6, 162, 0, 7, 4, 167, 0, 4, 3]
abbrev dktX1_seat_0 : List UInt8 := dkwX1_seat_0 ++ dktX1_seat_1
theorem dksX1_seat_0 : cX1_seat.data.toList.drop 0 = dktX1_seat_0 := by decide +kernel
theorem dksX1_seat_1 : cX1_seat.data.toList.drop 23 = dktX1_seat_1 := dk_seg dksX1_seat_0 23 rfl rfl
theorem dksX1_seat_2 : cX1_seat.data.toList.drop 47 = dktX1_seat_2 := dk_seg dksX1_seat_1 24 rfl rfl
theorem dX1_seat_0 : decode cX1_seat 0 = .ok (.iload_n 1, 1) := dk_27 (dk_at dksX1_seat_0 0 rfl rfl)
theorem dX1_seat_1 : decode cX1_seat 1 = .ok (.bipush 6, 2) := dk_16 6 (dk_at dksX1_seat_0 1 rfl rfl)
theorem dX1_seat_3 : decode cX1_seat 3 = .ok (.invokestatic 112, 3) := dk_184 0 112 (dk_at dksX1_seat_0 3 rfl rfl)
theorem dX1_seat_6 : decode cX1_seat 6 = .ok (.pop, 1) := dk_87 (dk_at dksX1_seat_0 6 rfl rfl)
theorem dX1_seat_7 : decode cX1_seat 7 = .ok (.aload_n 0, 1) := dk_42 (dk_at dksX1_seat_0 7 rfl rfl)
theorem dX1_seat_8 : decode cX1_seat 8 = .ok (.getfield 62, 3) := dk_180 0 62 (dk_at dksX1_seat_0 8 rfl rfl)
theorem dX1_seat_11 : decode cX1_seat 11 = .ok (.invokevirtual 3, 3) := dk_182 0 3 (dk_at dksX1_seat_0 11 rfl rfl)
theorem dX1_seat_14 : decode cX1_seat 14 = .ok (.iconst 3, 1) := dk_6 (dk_at dksX1_seat_0 14 rfl rfl)
theorem dX1_seat_15 : decode cX1_seat 15 = .ok (.if_icmp .ge 7, 3) := dk_162 0 7 (dk_at dksX1_seat_0 15 rfl rfl)
theorem dX1_seat_18 : decode cX1_seat 18 = .ok (.iconst 1, 1) := dk_4 (dk_at dksX1_seat_0 18 rfl rfl)
theorem dX1_seat_19 : decode cX1_seat 19 = .ok (.goto 4, 3) := dk_167 0 4 (dk_at dksX1_seat_0 19 rfl rfl)
theorem dX1_seat_22 : decode cX1_seat 22 = .ok (.iconst 0, 1) := dk_3 (dk_at dksX1_seat_0 22 rfl rfl)
theorem dX1_seat_23 : decode cX1_seat 23 = .ok (.invokestatic 207, 3) := dk_184 0 207 (dk_at dksX1_seat_1 0 rfl rfl)
theorem dX1_seat_26 : decode cX1_seat 26 = .ok (.aload_n 0, 1) := dk_42 (dk_at dksX1_seat_1 3 rfl rfl)
theorem dX1_seat_27 : decode cX1_seat 27 = .ok (.getfield 62, 3) := dk_180 0 62 (dk_at dksX1_seat_1 4 rfl rfl)
theorem dX1_seat_30 : decode cX1_seat 30 = .ok (.iload_n 1, 1) := dk_27 (dk_at dksX1_seat_1 7 rfl rfl)
theorem dX1_seat_31 : decode cX1_seat 31 = .ok (.invokestatic 159, 3) := dk_184 0 159 (dk_at dksX1_seat_1 8 rfl rfl)
theorem dX1_seat_34 : decode cX1_seat 34 = .ok (.invokevirtual 165, 3) := dk_182 0 165 (dk_at dksX1_seat_1 11 rfl rfl)
theorem dX1_seat_37 : decode cX1_seat 37 = .ok (.pop, 1) := dk_87 (dk_at dksX1_seat_1 14 rfl rfl)
theorem dX1_seat_38 : decode cX1_seat 38 = .ok (.aload_n 0, 1) := dk_42 (dk_at dksX1_seat_1 15 rfl rfl)
theorem dX1_seat_39 : decode cX1_seat 39 = .ok (.getfield 62, 3) := dk_180 0 62 (dk_at dksX1_seat_1 16 rfl rfl)
theorem dX1_seat_42 : decode cX1_seat 42 = .ok (.invokevirtual 3, 3) := dk_182 0 3 (dk_at dksX1_seat_1 19 rfl rfl)
theorem dX1_seat_45 : decode cX1_seat 45 = .ok (.iconst 1, 1) := dk_4 (dk_at dksX1_seat_1 22 rfl rfl)
theorem dX1_seat_46 : decode cX1_seat 46 = .ok (.isub, 1) := dk_100 (dk_at dksX1_seat_1 23 rfl rfl)
theorem dX1_seat_47 : decode cX1_seat 47 = .ok (.ireturn, 1) := dk_172 (dk_at dksX1_seat_2 0 rfl rfl)
abbrev cX1_link : ByteArray := prog_1_method_33_code
def yX1_link : MethodName := ⟨RX1, "link", "(IIII)I"⟩
def dkwX1_link_3 : List UInt8 := [182, 0, 3, 172]
abbrev dktX1_link_3 : List UInt8 := dkwX1_link_3 ++ []
def dkwX1_link_2 : List UInt8 := [180, 0, 65, 187, 1, 32, 89, 27, 28, 29, 21, 4, 183, 1, 34, 182, 0, 165, 87, 42, 180, 0, 65]
abbrev dktX1_link_2 : List UInt8 := dkwX1_link_2 ++ dktX1_link_3
def dkwX1_link_1 : List UInt8 := [184, 0, 103, 42, 180, 0, 65, 182, 0, 3, 6, 162, 0, 7, 4, 167, 0, 4, 3, 184, 0, 207, 42]
abbrev dktX1_link_1 : List UInt8 := dkwX1_link_1 ++ dktX1_link_2
def dkwX1_link_0 : List UInt8 := [42, 27, 28, 182, 1, 28, 42, 29, 21, 4, 182, 1, 28, 29, 27, 164, 0, 7, 4, 167, 0, 4, 3]
abbrev dktX1_link_0 : List UInt8 := dkwX1_link_0 ++ dktX1_link_1
theorem dksX1_link_0 : cX1_link.data.toList.drop 0 = dktX1_link_0 := by decide +kernel
theorem dksX1_link_1 : cX1_link.data.toList.drop 23 = dktX1_link_1 := dk_seg dksX1_link_0 23 rfl rfl
theorem dksX1_link_2 : cX1_link.data.toList.drop 46 = dktX1_link_2 := dk_seg dksX1_link_1 23 rfl rfl
theorem dksX1_link_3 : cX1_link.data.toList.drop 69 = dktX1_link_3 := dk_seg dksX1_link_2 23 rfl rfl
theorem dX1_link_0 : decode cX1_link 0 = .ok (.aload_n 0, 1) := dk_42 (dk_at dksX1_link_0 0 rfl rfl)
theorem dX1_link_1 : decode cX1_link 1 = .ok (.iload_n 1, 1) := dk_27 (dk_at dksX1_link_0 1 rfl rfl)
theorem dX1_link_2 : decode cX1_link 2 = .ok (.iload_n 2, 1) := dk_28 (dk_at dksX1_link_0 2 rfl rfl)
theorem dX1_link_3 : decode cX1_link 3 = .ok (.invokevirtual 284, 3) := dk_182 1 28 (dk_at dksX1_link_0 3 rfl rfl)
theorem dX1_link_6 : decode cX1_link 6 = .ok (.aload_n 0, 1) := dk_42 (dk_at dksX1_link_0 6 rfl rfl)
theorem dX1_link_7 : decode cX1_link 7 = .ok (.iload_n 3, 1) := dk_29 (dk_at dksX1_link_0 7 rfl rfl)
theorem dX1_link_8 : decode cX1_link 8 = .ok (.iload 4, 2) := dk_21 4 (dk_at dksX1_link_0 8 rfl rfl)
theorem dX1_link_10 : decode cX1_link 10 = .ok (.invokevirtual 284, 3) := dk_182 1 28 (dk_at dksX1_link_0 10 rfl rfl)
theorem dX1_link_13 : decode cX1_link 13 = .ok (.iload_n 3, 1) := dk_29 (dk_at dksX1_link_0 13 rfl rfl)
theorem dX1_link_14 : decode cX1_link 14 = .ok (.iload_n 1, 1) := dk_27 (dk_at dksX1_link_0 14 rfl rfl)
theorem dX1_link_15 : decode cX1_link 15 = .ok (.if_icmp .le 7, 3) := dk_164 0 7 (dk_at dksX1_link_0 15 rfl rfl)
theorem dX1_link_18 : decode cX1_link 18 = .ok (.iconst 1, 1) := dk_4 (dk_at dksX1_link_0 18 rfl rfl)
theorem dX1_link_19 : decode cX1_link 19 = .ok (.goto 4, 3) := dk_167 0 4 (dk_at dksX1_link_0 19 rfl rfl)
theorem dX1_link_22 : decode cX1_link 22 = .ok (.iconst 0, 1) := dk_3 (dk_at dksX1_link_0 22 rfl rfl)
theorem dX1_link_23 : decode cX1_link 23 = .ok (.invokestatic 103, 3) := dk_184 0 103 (dk_at dksX1_link_1 0 rfl rfl)
theorem dX1_link_26 : decode cX1_link 26 = .ok (.aload_n 0, 1) := dk_42 (dk_at dksX1_link_1 3 rfl rfl)
theorem dX1_link_27 : decode cX1_link 27 = .ok (.getfield 65, 3) := dk_180 0 65 (dk_at dksX1_link_1 4 rfl rfl)
theorem dX1_link_30 : decode cX1_link 30 = .ok (.invokevirtual 3, 3) := dk_182 0 3 (dk_at dksX1_link_1 7 rfl rfl)
theorem dX1_link_33 : decode cX1_link 33 = .ok (.iconst 3, 1) := dk_6 (dk_at dksX1_link_1 10 rfl rfl)
theorem dX1_link_34 : decode cX1_link 34 = .ok (.if_icmp .ge 7, 3) := dk_162 0 7 (dk_at dksX1_link_1 11 rfl rfl)
theorem dX1_link_37 : decode cX1_link 37 = .ok (.iconst 1, 1) := dk_4 (dk_at dksX1_link_1 14 rfl rfl)
theorem dX1_link_38 : decode cX1_link 38 = .ok (.goto 4, 3) := dk_167 0 4 (dk_at dksX1_link_1 15 rfl rfl)
theorem dX1_link_41 : decode cX1_link 41 = .ok (.iconst 0, 1) := dk_3 (dk_at dksX1_link_1 18 rfl rfl)
theorem dX1_link_42 : decode cX1_link 42 = .ok (.invokestatic 207, 3) := dk_184 0 207 (dk_at dksX1_link_1 19 rfl rfl)
theorem dX1_link_45 : decode cX1_link 45 = .ok (.aload_n 0, 1) := dk_42 (dk_at dksX1_link_1 22 rfl rfl)
theorem dX1_link_46 : decode cX1_link 46 = .ok (.getfield 65, 3) := dk_180 0 65 (dk_at dksX1_link_2 0 rfl rfl)
theorem dX1_link_49 : decode cX1_link 49 = .ok (.new 288, 3) := dk_187 1 32 (dk_at dksX1_link_2 3 rfl rfl)
theorem dX1_link_52 : decode cX1_link 52 = .ok (.dup, 1) := dk_89 (dk_at dksX1_link_2 6 rfl rfl)
theorem dX1_link_53 : decode cX1_link 53 = .ok (.iload_n 1, 1) := dk_27 (dk_at dksX1_link_2 7 rfl rfl)
theorem dX1_link_54 : decode cX1_link 54 = .ok (.iload_n 2, 1) := dk_28 (dk_at dksX1_link_2 8 rfl rfl)
theorem dX1_link_55 : decode cX1_link 55 = .ok (.iload_n 3, 1) := dk_29 (dk_at dksX1_link_2 9 rfl rfl)
theorem dX1_link_56 : decode cX1_link 56 = .ok (.iload 4, 2) := dk_21 4 (dk_at dksX1_link_2 10 rfl rfl)
theorem dX1_link_58 : decode cX1_link 58 = .ok (.invokespecial 290, 3) := dk_183 1 34 (dk_at dksX1_link_2 12 rfl rfl)
theorem dX1_link_61 : decode cX1_link 61 = .ok (.invokevirtual 165, 3) := dk_182 0 165 (dk_at dksX1_link_2 15 rfl rfl)
theorem dX1_link_64 : decode cX1_link 64 = .ok (.pop, 1) := dk_87 (dk_at dksX1_link_2 18 rfl rfl)
theorem dX1_link_65 : decode cX1_link 65 = .ok (.aload_n 0, 1) := dk_42 (dk_at dksX1_link_2 19 rfl rfl)
theorem dX1_link_66 : decode cX1_link 66 = .ok (.getfield 65, 3) := dk_180 0 65 (dk_at dksX1_link_2 20 rfl rfl)
theorem dX1_link_69 : decode cX1_link 69 = .ok (.invokevirtual 3, 3) := dk_182 0 3 (dk_at dksX1_link_3 0 rfl rfl)
theorem dX1_link_72 : decode cX1_link 72 = .ok (.ireturn, 1) := dk_172 (dk_at dksX1_link_3 3 rfl rfl)
abbrev cX1_knownColumn : ByteArray := prog_1_method_31_code
def yX1_knownColumn : MethodName := ⟨RX1, "knownColumn", "(II)V"⟩
def dkwX1_knownColumn_0 : List UInt8 := [28, 42, 27, 182, 1, 25, 180, 0, 140, 180, 0, 183, 185, 0, 233, 1, 0, 184, 0, 112, 87, 177]
abbrev dktX1_knownColumn_0 : List UInt8 := dkwX1_knownColumn_0 ++ []
theorem dksX1_knownColumn_0 : cX1_knownColumn.data.toList.drop 0 = dktX1_knownColumn_0 := by decide +kernel
theorem dX1_knownColumn_0 : decode cX1_knownColumn 0 = .ok (.iload_n 2, 1) := dk_28 (dk_at dksX1_knownColumn_0 0 rfl rfl)
theorem dX1_knownColumn_1 : decode cX1_knownColumn 1 = .ok (.aload_n 0, 1) := dk_42 (dk_at dksX1_knownColumn_0 1 rfl rfl)
theorem dX1_knownColumn_2 : decode cX1_knownColumn 2 = .ok (.iload_n 1, 1) := dk_27 (dk_at dksX1_knownColumn_0 2 rfl rfl)
theorem dX1_knownColumn_3 : decode cX1_knownColumn 3 = .ok (.invokevirtual 281, 3) := dk_182 1 25 (dk_at dksX1_knownColumn_0 3 rfl rfl)
theorem dX1_knownColumn_6 : decode cX1_knownColumn 6 = .ok (.getfield 140, 3) := dk_180 0 140 (dk_at dksX1_knownColumn_0 6 rfl rfl)
theorem dX1_knownColumn_9 : decode cX1_knownColumn 9 = .ok (.getfield 183, 3) := dk_180 0 183 (dk_at dksX1_knownColumn_0 9 rfl rfl)
theorem dX1_knownColumn_12 : decode cX1_knownColumn 12 = .ok (.invokeinterface 233 1, 5) := by decide +kernel
theorem dX1_knownColumn_17 : decode cX1_knownColumn 17 = .ok (.invokestatic 112, 3) := dk_184 0 112 (dk_at dksX1_knownColumn_0 17 rfl rfl)
theorem dX1_knownColumn_20 : decode cX1_knownColumn 20 = .ok (.pop, 1) := dk_87 (dk_at dksX1_knownColumn_0 20 rfl rfl)
theorem dX1_knownColumn_21 : decode cX1_knownColumn 21 = .ok (.return_, 1) := dk_177 (dk_at dksX1_knownColumn_0 21 rfl rfl)
abbrev cX1_seatAt : ByteArray := prog_1_method_30_code
def yX1_seatAt : MethodName := ⟨RX1, "seatAt", "(I)LQueryHarbor$Source;"⟩
def dkwX1_seatAt_1 : List UInt8 := [192, 0, 160, 182, 1, 22, 50, 176]
abbrev dktX1_seatAt_1 : List UInt8 := dkwX1_seatAt_1 ++ []
def dkwX1_seatAt_0 : List UInt8 := [42, 180, 0, 45, 42, 180, 0, 62, 27, 42, 180, 0, 62, 182, 0, 3, 184, 0, 112, 182, 0, 9]
abbrev dktX1_seatAt_0 : List UInt8 := dkwX1_seatAt_0 ++ dktX1_seatAt_1
theorem dksX1_seatAt_0 : cX1_seatAt.data.toList.drop 0 = dktX1_seatAt_0 := by decide +kernel
theorem dksX1_seatAt_1 : cX1_seatAt.data.toList.drop 22 = dktX1_seatAt_1 := dk_seg dksX1_seatAt_0 22 rfl rfl
theorem dX1_seatAt_0 : decode cX1_seatAt 0 = .ok (.aload_n 0, 1) := dk_42 (dk_at dksX1_seatAt_0 0 rfl rfl)
theorem dX1_seatAt_1 : decode cX1_seatAt 1 = .ok (.getfield 45, 3) := dk_180 0 45 (dk_at dksX1_seatAt_0 1 rfl rfl)
theorem dX1_seatAt_4 : decode cX1_seatAt 4 = .ok (.aload_n 0, 1) := dk_42 (dk_at dksX1_seatAt_0 4 rfl rfl)
theorem dX1_seatAt_5 : decode cX1_seatAt 5 = .ok (.getfield 62, 3) := dk_180 0 62 (dk_at dksX1_seatAt_0 5 rfl rfl)
theorem dX1_seatAt_8 : decode cX1_seatAt 8 = .ok (.iload_n 1, 1) := dk_27 (dk_at dksX1_seatAt_0 8 rfl rfl)
theorem dX1_seatAt_9 : decode cX1_seatAt 9 = .ok (.aload_n 0, 1) := dk_42 (dk_at dksX1_seatAt_0 9 rfl rfl)
theorem dX1_seatAt_10 : decode cX1_seatAt 10 = .ok (.getfield 62, 3) := dk_180 0 62 (dk_at dksX1_seatAt_0 10 rfl rfl)
theorem dX1_seatAt_13 : decode cX1_seatAt 13 = .ok (.invokevirtual 3, 3) := dk_182 0 3 (dk_at dksX1_seatAt_0 13 rfl rfl)
theorem dX1_seatAt_16 : decode cX1_seatAt 16 = .ok (.invokestatic 112, 3) := dk_184 0 112 (dk_at dksX1_seatAt_0 16 rfl rfl)
theorem dX1_seatAt_19 : decode cX1_seatAt 19 = .ok (.invokevirtual 9, 3) := dk_182 0 9 (dk_at dksX1_seatAt_0 19 rfl rfl)
theorem dX1_seatAt_22 : decode cX1_seatAt 22 = .ok (.checkcast 160, 3) := dk_192 0 160 (dk_at dksX1_seatAt_1 0 rfl rfl)
theorem dX1_seatAt_25 : decode cX1_seatAt 25 = .ok (.invokevirtual 278, 3) := dk_182 1 22 (dk_at dksX1_seatAt_1 3 rfl rfl)
theorem dX1_seatAt_28 : decode cX1_seatAt 28 = .ok (.aaload, 1) := dk_50 (dk_at dksX1_seatAt_1 6 rfl rfl)
theorem dX1_seatAt_29 : decode cX1_seatAt 29 = .ok (.areturn, 1) := dk_176 (dk_at dksX1_seatAt_1 7 rfl rfl)
abbrev cX1_where : ByteArray := prog_1_method_34_code
def yX1_where : MethodName := ⟨RX1, "where", "(IIII)I"⟩
def dkwX1_where_3 : List UInt8 := [183, 1, 41, 182, 0, 165, 87, 42, 180, 0, 68, 182, 0, 3, 172]
abbrev dktX1_where_3 : List UInt8 := dkwX1_where_3 ++ []
def dkwX1_where_2 : List UInt8 := [162, 0, 7, 4, 167, 0, 4, 3, 184, 0, 207, 42, 180, 0, 68, 187, 0, 13, 89, 27, 28, 29, 21, 4]
abbrev dktX1_where_2 : List UInt8 := dkwX1_where_2 ++ dktX1_where_3
def dkwX1_where_1 : List UInt8 := [167, 0, 13, 21, 4, 154, 0, 7, 4, 167, 0, 4, 3, 184, 0, 103, 42, 180, 0, 68, 182, 0, 3, 7]
abbrev dktX1_where_1 : List UInt8 := dkwX1_where_1 ++ dktX1_where_2
def dkwX1_where_0 : List UInt8 := [42, 27, 28, 182, 1, 28, 29, 3, 7, 184, 1, 3, 29, 5, 163, 0, 11, 21, 4, 184, 1, 37]
abbrev dktX1_where_0 : List UInt8 := dkwX1_where_0 ++ dktX1_where_1
theorem dksX1_where_0 : cX1_where.data.toList.drop 0 = dktX1_where_0 := by decide +kernel
theorem dksX1_where_1 : cX1_where.data.toList.drop 22 = dktX1_where_1 := dk_seg dksX1_where_0 22 rfl rfl
theorem dksX1_where_2 : cX1_where.data.toList.drop 46 = dktX1_where_2 := dk_seg dksX1_where_1 24 rfl rfl
theorem dksX1_where_3 : cX1_where.data.toList.drop 70 = dktX1_where_3 := dk_seg dksX1_where_2 24 rfl rfl
theorem dX1_where_0 : decode cX1_where 0 = .ok (.aload_n 0, 1) := dk_42 (dk_at dksX1_where_0 0 rfl rfl)
theorem dX1_where_1 : decode cX1_where 1 = .ok (.iload_n 1, 1) := dk_27 (dk_at dksX1_where_0 1 rfl rfl)
theorem dX1_where_2 : decode cX1_where 2 = .ok (.iload_n 2, 1) := dk_28 (dk_at dksX1_where_0 2 rfl rfl)
theorem dX1_where_3 : decode cX1_where 3 = .ok (.invokevirtual 284, 3) := dk_182 1 28 (dk_at dksX1_where_0 3 rfl rfl)
theorem dX1_where_6 : decode cX1_where 6 = .ok (.iload_n 3, 1) := dk_29 (dk_at dksX1_where_0 6 rfl rfl)
theorem dX1_where_7 : decode cX1_where 7 = .ok (.iconst 0, 1) := dk_3 (dk_at dksX1_where_0 7 rfl rfl)
theorem dX1_where_8 : decode cX1_where 8 = .ok (.iconst 4, 1) := dk_7 (dk_at dksX1_where_0 8 rfl rfl)
theorem dX1_where_9 : decode cX1_where 9 = .ok (.invokestatic 259, 3) := dk_184 1 3 (dk_at dksX1_where_0 9 rfl rfl)
theorem dX1_where_12 : decode cX1_where 12 = .ok (.iload_n 3, 1) := dk_29 (dk_at dksX1_where_0 12 rfl rfl)
theorem dX1_where_13 : decode cX1_where 13 = .ok (.iconst 2, 1) := dk_5 (dk_at dksX1_where_0 13 rfl rfl)
theorem dX1_where_14 : decode cX1_where 14 = .ok (.if_icmp .gt 11, 3) := dk_163 0 11 (dk_at dksX1_where_0 14 rfl rfl)
theorem dX1_where_17 : decode cX1_where 17 = .ok (.iload 4, 2) := dk_21 4 (dk_at dksX1_where_0 17 rfl rfl)
theorem dX1_where_19 : decode cX1_where 19 = .ok (.invokestatic 293, 3) := dk_184 1 37 (dk_at dksX1_where_0 19 rfl rfl)
theorem dX1_where_22 : decode cX1_where 22 = .ok (.goto 13, 3) := dk_167 0 13 (dk_at dksX1_where_1 0 rfl rfl)
theorem dX1_where_25 : decode cX1_where 25 = .ok (.iload 4, 2) := dk_21 4 (dk_at dksX1_where_1 3 rfl rfl)
theorem dX1_where_27 : decode cX1_where 27 = .ok (.ifCond .ne 7, 3) := dk_154 0 7 (dk_at dksX1_where_1 5 rfl rfl)
theorem dX1_where_30 : decode cX1_where 30 = .ok (.iconst 1, 1) := dk_4 (dk_at dksX1_where_1 8 rfl rfl)
theorem dX1_where_31 : decode cX1_where 31 = .ok (.goto 4, 3) := dk_167 0 4 (dk_at dksX1_where_1 9 rfl rfl)
theorem dX1_where_34 : decode cX1_where 34 = .ok (.iconst 0, 1) := dk_3 (dk_at dksX1_where_1 12 rfl rfl)
theorem dX1_where_35 : decode cX1_where 35 = .ok (.invokestatic 103, 3) := dk_184 0 103 (dk_at dksX1_where_1 13 rfl rfl)
theorem dX1_where_38 : decode cX1_where 38 = .ok (.aload_n 0, 1) := dk_42 (dk_at dksX1_where_1 16 rfl rfl)
theorem dX1_where_39 : decode cX1_where 39 = .ok (.getfield 68, 3) := dk_180 0 68 (dk_at dksX1_where_1 17 rfl rfl)
theorem dX1_where_42 : decode cX1_where 42 = .ok (.invokevirtual 3, 3) := dk_182 0 3 (dk_at dksX1_where_1 20 rfl rfl)
theorem dX1_where_45 : decode cX1_where 45 = .ok (.iconst 4, 1) := dk_7 (dk_at dksX1_where_1 23 rfl rfl)
theorem dX1_where_46 : decode cX1_where 46 = .ok (.if_icmp .ge 7, 3) := dk_162 0 7 (dk_at dksX1_where_2 0 rfl rfl)
theorem dX1_where_49 : decode cX1_where 49 = .ok (.iconst 1, 1) := dk_4 (dk_at dksX1_where_2 3 rfl rfl)
theorem dX1_where_50 : decode cX1_where 50 = .ok (.goto 4, 3) := dk_167 0 4 (dk_at dksX1_where_2 4 rfl rfl)
theorem dX1_where_53 : decode cX1_where 53 = .ok (.iconst 0, 1) := dk_3 (dk_at dksX1_where_2 7 rfl rfl)
theorem dX1_where_54 : decode cX1_where 54 = .ok (.invokestatic 207, 3) := dk_184 0 207 (dk_at dksX1_where_2 8 rfl rfl)
theorem dX1_where_57 : decode cX1_where 57 = .ok (.aload_n 0, 1) := dk_42 (dk_at dksX1_where_2 11 rfl rfl)
theorem dX1_where_58 : decode cX1_where 58 = .ok (.getfield 68, 3) := dk_180 0 68 (dk_at dksX1_where_2 12 rfl rfl)
theorem dX1_where_61 : decode cX1_where 61 = .ok (.new 13, 3) := dk_187 0 13 (dk_at dksX1_where_2 15 rfl rfl)
theorem dX1_where_64 : decode cX1_where 64 = .ok (.dup, 1) := dk_89 (dk_at dksX1_where_2 18 rfl rfl)
theorem dX1_where_65 : decode cX1_where 65 = .ok (.iload_n 1, 1) := dk_27 (dk_at dksX1_where_2 19 rfl rfl)
theorem dX1_where_66 : decode cX1_where 66 = .ok (.iload_n 2, 1) := dk_28 (dk_at dksX1_where_2 20 rfl rfl)
theorem dX1_where_67 : decode cX1_where 67 = .ok (.iload_n 3, 1) := dk_29 (dk_at dksX1_where_2 21 rfl rfl)
theorem dX1_where_68 : decode cX1_where 68 = .ok (.iload 4, 2) := dk_21 4 (dk_at dksX1_where_2 22 rfl rfl)
theorem dX1_where_70 : decode cX1_where 70 = .ok (.invokespecial 297, 3) := dk_183 1 41 (dk_at dksX1_where_3 0 rfl rfl)
theorem dX1_where_73 : decode cX1_where 73 = .ok (.invokevirtual 165, 3) := dk_182 0 165 (dk_at dksX1_where_3 3 rfl rfl)
theorem dX1_where_76 : decode cX1_where 76 = .ok (.pop, 1) := dk_87 (dk_at dksX1_where_3 6 rfl rfl)
theorem dX1_where_77 : decode cX1_where 77 = .ok (.aload_n 0, 1) := dk_42 (dk_at dksX1_where_3 7 rfl rfl)
theorem dX1_where_78 : decode cX1_where 78 = .ok (.getfield 68, 3) := dk_180 0 68 (dk_at dksX1_where_3 8 rfl rfl)
theorem dX1_where_81 : decode cX1_where 81 = .ok (.invokevirtual 3, 3) := dk_182 0 3 (dk_at dksX1_where_3 11 rfl rfl)
theorem dX1_where_84 : decode cX1_where 84 = .ok (.ireturn, 1) := dk_172 (dk_at dksX1_where_3 14 rfl rfl)
abbrev cX1_out : ByteArray := prog_1_method_35_code
def yX1_out : MethodName := ⟨RX1, "out", "(II)I"⟩
def dkwX1_out_2 : List UInt8 := [182, 0, 3, 172]
abbrev dktX1_out_2 : List UInt8 := dkwX1_out_2 ++ []
def dkwX1_out_1 : List UInt8 := [184, 0, 207, 42, 180, 0, 71, 187, 1, 42, 89, 27, 28, 183, 1, 44, 182, 0, 165, 87, 42, 180, 0, 71]
abbrev dktX1_out_1 : List UInt8 := dkwX1_out_1 ++ dktX1_out_2
def dkwX1_out_0 : List UInt8 := [42, 27, 28, 182, 1, 28, 42, 180, 0, 71, 182, 0, 3, 6, 162, 0, 7, 4, 167, 0, 4, 3]
abbrev dktX1_out_0 : List UInt8 := dkwX1_out_0 ++ dktX1_out_1
theorem dksX1_out_0 : cX1_out.data.toList.drop 0 = dktX1_out_0 := by decide +kernel
theorem dksX1_out_1 : cX1_out.data.toList.drop 22 = dktX1_out_1 := dk_seg dksX1_out_0 22 rfl rfl
theorem dksX1_out_2 : cX1_out.data.toList.drop 46 = dktX1_out_2 := dk_seg dksX1_out_1 24 rfl rfl
theorem dX1_out_0 : decode cX1_out 0 = .ok (.aload_n 0, 1) := dk_42 (dk_at dksX1_out_0 0 rfl rfl)
theorem dX1_out_1 : decode cX1_out 1 = .ok (.iload_n 1, 1) := dk_27 (dk_at dksX1_out_0 1 rfl rfl)
theorem dX1_out_2 : decode cX1_out 2 = .ok (.iload_n 2, 1) := dk_28 (dk_at dksX1_out_0 2 rfl rfl)
theorem dX1_out_3 : decode cX1_out 3 = .ok (.invokevirtual 284, 3) := dk_182 1 28 (dk_at dksX1_out_0 3 rfl rfl)
theorem dX1_out_6 : decode cX1_out 6 = .ok (.aload_n 0, 1) := dk_42 (dk_at dksX1_out_0 6 rfl rfl)
theorem dX1_out_7 : decode cX1_out 7 = .ok (.getfield 71, 3) := dk_180 0 71 (dk_at dksX1_out_0 7 rfl rfl)
theorem dX1_out_10 : decode cX1_out 10 = .ok (.invokevirtual 3, 3) := dk_182 0 3 (dk_at dksX1_out_0 10 rfl rfl)
theorem dX1_out_13 : decode cX1_out 13 = .ok (.iconst 3, 1) := dk_6 (dk_at dksX1_out_0 13 rfl rfl)
theorem dX1_out_14 : decode cX1_out 14 = .ok (.if_icmp .ge 7, 3) := dk_162 0 7 (dk_at dksX1_out_0 14 rfl rfl)
theorem dX1_out_17 : decode cX1_out 17 = .ok (.iconst 1, 1) := dk_4 (dk_at dksX1_out_0 17 rfl rfl)
theorem dX1_out_18 : decode cX1_out 18 = .ok (.goto 4, 3) := dk_167 0 4 (dk_at dksX1_out_0 18 rfl rfl)
theorem dX1_out_21 : decode cX1_out 21 = .ok (.iconst 0, 1) := dk_3 (dk_at dksX1_out_0 21 rfl rfl)
theorem dX1_out_22 : decode cX1_out 22 = .ok (.invokestatic 207, 3) := dk_184 0 207 (dk_at dksX1_out_1 0 rfl rfl)
theorem dX1_out_25 : decode cX1_out 25 = .ok (.aload_n 0, 1) := dk_42 (dk_at dksX1_out_1 3 rfl rfl)
theorem dX1_out_26 : decode cX1_out 26 = .ok (.getfield 71, 3) := dk_180 0 71 (dk_at dksX1_out_1 4 rfl rfl)
theorem dX1_out_29 : decode cX1_out 29 = .ok (.new 298, 3) := dk_187 1 42 (dk_at dksX1_out_1 7 rfl rfl)
theorem dX1_out_32 : decode cX1_out 32 = .ok (.dup, 1) := dk_89 (dk_at dksX1_out_1 10 rfl rfl)
theorem dX1_out_33 : decode cX1_out 33 = .ok (.iload_n 1, 1) := dk_27 (dk_at dksX1_out_1 11 rfl rfl)
theorem dX1_out_34 : decode cX1_out 34 = .ok (.iload_n 2, 1) := dk_28 (dk_at dksX1_out_1 12 rfl rfl)
theorem dX1_out_35 : decode cX1_out 35 = .ok (.invokespecial 300, 3) := dk_183 1 44 (dk_at dksX1_out_1 13 rfl rfl)
theorem dX1_out_38 : decode cX1_out 38 = .ok (.invokevirtual 165, 3) := dk_182 0 165 (dk_at dksX1_out_1 16 rfl rfl)
theorem dX1_out_41 : decode cX1_out 41 = .ok (.pop, 1) := dk_87 (dk_at dksX1_out_1 19 rfl rfl)
theorem dX1_out_42 : decode cX1_out 42 = .ok (.aload_n 0, 1) := dk_42 (dk_at dksX1_out_1 20 rfl rfl)
theorem dX1_out_43 : decode cX1_out 43 = .ok (.getfield 71, 3) := dk_180 0 71 (dk_at dksX1_out_1 21 rfl rfl)
theorem dX1_out_46 : decode cX1_out 46 = .ok (.invokevirtual 3, 3) := dk_182 0 3 (dk_at dksX1_out_2 0 rfl rfl)
theorem dX1_out_49 : decode cX1_out 49 = .ok (.ireturn, 1) := dk_172 (dk_at dksX1_out_2 3 rfl rfl)
abbrev cX1_shape : ByteArray := prog_1_method_36_code
def yX1_shape : MethodName := ⟨RX1, "shape", "(IZ)V"⟩
def dkwX1_shape_0 : List UInt8 := [27, 4, 16, 40, 184, 1, 3, 42, 27, 181, 0, 77, 42, 28, 181, 1, 46, 177]
abbrev dktX1_shape_0 : List UInt8 := dkwX1_shape_0 ++ []
theorem dksX1_shape_0 : cX1_shape.data.toList.drop 0 = dktX1_shape_0 := by decide +kernel
theorem dX1_shape_0 : decode cX1_shape 0 = .ok (.iload_n 1, 1) := dk_27 (dk_at dksX1_shape_0 0 rfl rfl)
theorem dX1_shape_1 : decode cX1_shape 1 = .ok (.iconst 1, 1) := dk_4 (dk_at dksX1_shape_0 1 rfl rfl)
theorem dX1_shape_2 : decode cX1_shape 2 = .ok (.bipush 40, 2) := dk_16 40 (dk_at dksX1_shape_0 2 rfl rfl)
theorem dX1_shape_4 : decode cX1_shape 4 = .ok (.invokestatic 259, 3) := dk_184 1 3 (dk_at dksX1_shape_0 4 rfl rfl)
theorem dX1_shape_7 : decode cX1_shape 7 = .ok (.aload_n 0, 1) := dk_42 (dk_at dksX1_shape_0 7 rfl rfl)
theorem dX1_shape_8 : decode cX1_shape 8 = .ok (.iload_n 1, 1) := dk_27 (dk_at dksX1_shape_0 8 rfl rfl)
theorem dX1_shape_9 : decode cX1_shape 9 = .ok (.putfield 77, 3) := dk_181 0 77 (dk_at dksX1_shape_0 9 rfl rfl)
theorem dX1_shape_12 : decode cX1_shape 12 = .ok (.aload_n 0, 1) := dk_42 (dk_at dksX1_shape_0 12 rfl rfl)
theorem dX1_shape_13 : decode cX1_shape 13 = .ok (.iload_n 2, 1) := dk_28 (dk_at dksX1_shape_0 13 rfl rfl)
theorem dX1_shape_14 : decode cX1_shape 14 = .ok (.putfield 302, 3) := dk_181 1 46 (dk_at dksX1_shape_0 14 rfl rfl)
theorem dX1_shape_17 : decode cX1_shape 17 = .ok (.return_, 1) := dk_177 (dk_at dksX1_shape_0 17 rfl rfl)
abbrev cX1_ask : ByteArray := prog_1_method_56_code
def yX1_ask : MethodName := ⟨RX1, "ask", "(II)I"⟩
def dkwX1_ask_15 : List UInt8 := [182, 2, 0, 42, 180, 0, 84, 180, 1, 218, 182, 0, 3, 172]
abbrev dktX1_ask_15 : List UInt8 := dkwX1_ask_15 ++ []
def dkwX1_ask_14 : List UInt8 := [21, 7, 167, 0, 4, 2, 181, 1, 249, 42, 25, 5, 42, 180, 0, 84, 182, 1, 252, 42, 42, 180, 0, 84]
abbrev dktX1_ask_14 : List UInt8 := dkwX1_ask_14 ++ dktX1_ask_15
def dkwX1_ask_13 : List UInt8 := [167, 255, 153, 42, 180, 0, 84, 42, 180, 0, 84, 180, 1, 237, 154, 0, 15, 21, 6, 21, 7, 163, 0, 8]
abbrev dktX1_ask_13 : List UInt8 := dkwX1_ask_13 ++ dktX1_ask_14
def dkwX1_ask_12 : List UInt8 := [180, 1, 85, 25, 11, 180, 1, 111, 42, 180, 0, 155, 182, 1, 246, 184, 1, 190, 54, 7, 132, 10, 1]
abbrev dktX1_ask_12 : List UInt8 := dkwX1_ask_12 ++ dktX1_ask_13
def dkwX1_ask_11 : List UInt8 := [25, 11, 180, 1, 85, 25, 11, 180, 1, 111, 182, 1, 240, 184, 1, 243, 54, 6, 21, 7, 25, 11]
abbrev dktX1_ask_11 : List UInt8 := dkwX1_ask_11 ++ dktX1_ask_12
def dkwX1_ask_10 : List UInt8 := [180, 1, 101, 153, 0, 13, 4, 25, 11, 180, 1, 138, 120, 167, 0, 4, 3, 128, 181, 1, 237, 21, 6]
abbrev dktX1_ask_10 : List UInt8 := dkwX1_ask_10 ++ dktX1_ask_11
def dkwX1_ask_9 : List UInt8 := [58, 11, 25, 5, 25, 11, 180, 1, 104, 182, 0, 165, 87, 42, 180, 0, 84, 89, 180, 1, 237, 25, 11]
abbrev dktX1_ask_9 : List UInt8 := dkwX1_ask_9 ++ dktX1_ask_10
def dkwX1_ask_8 : List UInt8 := [25, 4, 58, 8, 25, 8, 190, 54, 9, 3, 54, 10, 21, 10, 21, 9, 162, 0, 102, 25, 8, 21, 10, 50]
abbrev dktX1_ask_8 : List UInt8 := dkwX1_ask_8 ++ dktX1_ask_9
def dkwX1_ask_7 : List UInt8 := [132, 5, 1, 167, 255, 198, 187, 0, 4, 89, 183, 0, 54, 58, 5, 3, 54, 6, 42, 180, 0, 155, 54, 7]
abbrev dktX1_ask_7 : List UInt8 := dkwX1_ask_7 ++ dktX1_ask_8
def dkwX1_ask_6 : List UInt8 := [180, 1, 234, 16, 10, 25, 6, 180, 1, 138, 104, 25, 6, 180, 1, 156, 96, 184, 0, 159, 182, 0, 165, 87]
abbrev dktX1_ask_6 : List UInt8 := dkwX1_ask_6 ++ dktX1_ask_7
def dkwX1_ask_5 : List UInt8 := [42, 25, 4, 182, 1, 226, 58, 6, 42, 25, 6, 25, 4, 27, 29, 28, 182, 1, 230, 42, 180, 0, 84]
abbrev dktX1_ask_5 : List UInt8 := dkwX1_ask_5 ++ dktX1_ask_6
def dkwX1_ask_4 : List UInt8 := [42, 21, 5, 183, 1, 223, 83, 132, 5, 1, 167, 255, 230, 3, 54, 5, 21, 5, 25, 4, 190, 162, 0, 56]
abbrev dktX1_ask_4 : List UInt8 := dkwX1_ask_4 ++ dktX1_ask_5
def dkwX1_ask_3 : List UInt8 := [189, 1, 86, 58, 4, 3, 54, 5, 21, 5, 25, 4, 190, 162, 0, 24, 25, 4, 21, 5, 187, 1, 86, 89]
abbrev dktX1_ask_3 : List UInt8 := dkwX1_ask_3 ++ dktX1_ask_4
def dkwX1_ask_2 : List UInt8 := [187, 0, 81, 89, 183, 0, 83, 181, 0, 84, 42, 180, 0, 116, 62, 42, 180, 0, 62, 182, 0, 3]
abbrev dktX1_ask_2 : List UInt8 := dkwX1_ask_2 ++ dktX1_ask_3
def dkwX1_ask_1 : List UInt8 := [154, 0, 17, 42, 180, 0, 71, 182, 1, 121, 154, 0, 7, 4, 167, 0, 4, 3, 184, 0, 207, 42]
abbrev dktX1_ask_1 : List UInt8 := dkwX1_ask_1 ++ dktX1_ask_2
def dkwX1_ask_0 : List UInt8 := [27, 3, 17, 0, 200, 184, 1, 3, 28, 3, 17, 0, 200, 184, 1, 3, 42, 180, 0, 62, 182, 1, 121]
abbrev dktX1_ask_0 : List UInt8 := dkwX1_ask_0 ++ dktX1_ask_1
theorem dksX1_ask_0 : cX1_ask.data.toList.drop 0 = dktX1_ask_0 := by decide +kernel
theorem dksX1_ask_1 : cX1_ask.data.toList.drop 23 = dktX1_ask_1 := dk_seg dksX1_ask_0 23 rfl rfl
theorem dksX1_ask_2 : cX1_ask.data.toList.drop 45 = dktX1_ask_2 := dk_seg dksX1_ask_1 22 rfl rfl
theorem dksX1_ask_3 : cX1_ask.data.toList.drop 67 = dktX1_ask_3 := dk_seg dksX1_ask_2 22 rfl rfl
theorem dksX1_ask_4 : cX1_ask.data.toList.drop 91 = dktX1_ask_4 := dk_seg dksX1_ask_3 24 rfl rfl
theorem dksX1_ask_5 : cX1_ask.data.toList.drop 115 = dktX1_ask_5 := dk_seg dksX1_ask_4 24 rfl rfl
theorem dksX1_ask_6 : cX1_ask.data.toList.drop 138 = dktX1_ask_6 := dk_seg dksX1_ask_5 23 rfl rfl
theorem dksX1_ask_7 : cX1_ask.data.toList.drop 162 = dktX1_ask_7 := dk_seg dksX1_ask_6 24 rfl rfl
theorem dksX1_ask_8 : cX1_ask.data.toList.drop 186 = dktX1_ask_8 := dk_seg dksX1_ask_7 24 rfl rfl
theorem dksX1_ask_9 : cX1_ask.data.toList.drop 210 = dktX1_ask_9 := dk_seg dksX1_ask_8 24 rfl rfl
theorem dksX1_ask_10 : cX1_ask.data.toList.drop 233 = dktX1_ask_10 := dk_seg dksX1_ask_9 23 rfl rfl
theorem dksX1_ask_11 : cX1_ask.data.toList.drop 256 = dktX1_ask_11 := dk_seg dksX1_ask_10 23 rfl rfl
theorem dksX1_ask_12 : cX1_ask.data.toList.drop 278 = dktX1_ask_12 := dk_seg dksX1_ask_11 22 rfl rfl
theorem dksX1_ask_13 : cX1_ask.data.toList.drop 301 = dktX1_ask_13 := dk_seg dksX1_ask_12 23 rfl rfl
theorem dksX1_ask_14 : cX1_ask.data.toList.drop 325 = dktX1_ask_14 := dk_seg dksX1_ask_13 24 rfl rfl
theorem dksX1_ask_15 : cX1_ask.data.toList.drop 349 = dktX1_ask_15 := dk_seg dksX1_ask_14 24 rfl rfl
theorem dX1_ask_0 : decode cX1_ask 0 = .ok (.iload_n 1, 1) := dk_27 (dk_at dksX1_ask_0 0 rfl rfl)
theorem dX1_ask_1 : decode cX1_ask 1 = .ok (.iconst 0, 1) := dk_3 (dk_at dksX1_ask_0 1 rfl rfl)
theorem dX1_ask_2 : decode cX1_ask 2 = .ok (.sipush 200, 3) := dk_17 0 200 (dk_at dksX1_ask_0 2 rfl rfl)
theorem dX1_ask_5 : decode cX1_ask 5 = .ok (.invokestatic 259, 3) := dk_184 1 3 (dk_at dksX1_ask_0 5 rfl rfl)
theorem dX1_ask_8 : decode cX1_ask 8 = .ok (.iload_n 2, 1) := dk_28 (dk_at dksX1_ask_0 8 rfl rfl)
theorem dX1_ask_9 : decode cX1_ask 9 = .ok (.iconst 0, 1) := dk_3 (dk_at dksX1_ask_0 9 rfl rfl)
theorem dX1_ask_10 : decode cX1_ask 10 = .ok (.sipush 200, 3) := dk_17 0 200 (dk_at dksX1_ask_0 10 rfl rfl)
theorem dX1_ask_13 : decode cX1_ask 13 = .ok (.invokestatic 259, 3) := dk_184 1 3 (dk_at dksX1_ask_0 13 rfl rfl)
theorem dX1_ask_16 : decode cX1_ask 16 = .ok (.aload_n 0, 1) := dk_42 (dk_at dksX1_ask_0 16 rfl rfl)
theorem dX1_ask_17 : decode cX1_ask 17 = .ok (.getfield 62, 3) := dk_180 0 62 (dk_at dksX1_ask_0 17 rfl rfl)
theorem dX1_ask_20 : decode cX1_ask 20 = .ok (.invokevirtual 377, 3) := dk_182 1 121 (dk_at dksX1_ask_0 20 rfl rfl)
theorem dX1_ask_23 : decode cX1_ask 23 = .ok (.ifCond .ne 17, 3) := dk_154 0 17 (dk_at dksX1_ask_1 0 rfl rfl)
theorem dX1_ask_26 : decode cX1_ask 26 = .ok (.aload_n 0, 1) := dk_42 (dk_at dksX1_ask_1 3 rfl rfl)
theorem dX1_ask_27 : decode cX1_ask 27 = .ok (.getfield 71, 3) := dk_180 0 71 (dk_at dksX1_ask_1 4 rfl rfl)
theorem dX1_ask_30 : decode cX1_ask 30 = .ok (.invokevirtual 377, 3) := dk_182 1 121 (dk_at dksX1_ask_1 7 rfl rfl)
theorem dX1_ask_33 : decode cX1_ask 33 = .ok (.ifCond .ne 7, 3) := dk_154 0 7 (dk_at dksX1_ask_1 10 rfl rfl)
theorem dX1_ask_36 : decode cX1_ask 36 = .ok (.iconst 1, 1) := dk_4 (dk_at dksX1_ask_1 13 rfl rfl)
theorem dX1_ask_37 : decode cX1_ask 37 = .ok (.goto 4, 3) := dk_167 0 4 (dk_at dksX1_ask_1 14 rfl rfl)
theorem dX1_ask_40 : decode cX1_ask 40 = .ok (.iconst 0, 1) := dk_3 (dk_at dksX1_ask_1 17 rfl rfl)
theorem dX1_ask_41 : decode cX1_ask 41 = .ok (.invokestatic 207, 3) := dk_184 0 207 (dk_at dksX1_ask_1 18 rfl rfl)
theorem dX1_ask_44 : decode cX1_ask 44 = .ok (.aload_n 0, 1) := dk_42 (dk_at dksX1_ask_1 21 rfl rfl)
theorem dX1_ask_45 : decode cX1_ask 45 = .ok (.new 81, 3) := dk_187 0 81 (dk_at dksX1_ask_2 0 rfl rfl)
theorem dX1_ask_48 : decode cX1_ask 48 = .ok (.dup, 1) := dk_89 (dk_at dksX1_ask_2 3 rfl rfl)
theorem dX1_ask_49 : decode cX1_ask 49 = .ok (.invokespecial 83, 3) := dk_183 0 83 (dk_at dksX1_ask_2 4 rfl rfl)
theorem dX1_ask_52 : decode cX1_ask 52 = .ok (.putfield 84, 3) := dk_181 0 84 (dk_at dksX1_ask_2 7 rfl rfl)
theorem dX1_ask_55 : decode cX1_ask 55 = .ok (.aload_n 0, 1) := dk_42 (dk_at dksX1_ask_2 10 rfl rfl)
theorem dX1_ask_56 : decode cX1_ask 56 = .ok (.getfield 116, 3) := dk_180 0 116 (dk_at dksX1_ask_2 11 rfl rfl)
theorem dX1_ask_59 : decode cX1_ask 59 = .ok (.istore_n 3, 1) := dk_62 (dk_at dksX1_ask_2 14 rfl rfl)
theorem dX1_ask_60 : decode cX1_ask 60 = .ok (.aload_n 0, 1) := dk_42 (dk_at dksX1_ask_2 15 rfl rfl)
theorem dX1_ask_61 : decode cX1_ask 61 = .ok (.getfield 62, 3) := dk_180 0 62 (dk_at dksX1_ask_2 16 rfl rfl)
theorem dX1_ask_64 : decode cX1_ask 64 = .ok (.invokevirtual 3, 3) := dk_182 0 3 (dk_at dksX1_ask_2 19 rfl rfl)
theorem dX1_ask_67 : decode cX1_ask 67 = .ok (.anewarray 342, 3) := dk_189 1 86 (dk_at dksX1_ask_3 0 rfl rfl)
theorem dX1_ask_70 : decode cX1_ask 70 = .ok (.astore 4, 2) := dk_58 4 (dk_at dksX1_ask_3 3 rfl rfl)
theorem dX1_ask_72 : decode cX1_ask 72 = .ok (.iconst 0, 1) := dk_3 (dk_at dksX1_ask_3 5 rfl rfl)
theorem dX1_ask_73 : decode cX1_ask 73 = .ok (.istore 5, 2) := dk_54 5 (dk_at dksX1_ask_3 6 rfl rfl)
theorem dX1_ask_75 : decode cX1_ask 75 = .ok (.iload 5, 2) := dk_21 5 (dk_at dksX1_ask_3 8 rfl rfl)
theorem dX1_ask_77 : decode cX1_ask 77 = .ok (.aload 4, 2) := dk_25 4 (dk_at dksX1_ask_3 10 rfl rfl)
theorem dX1_ask_79 : decode cX1_ask 79 = .ok (.arraylength, 1) := dk_190 (dk_at dksX1_ask_3 12 rfl rfl)
theorem dX1_ask_80 : decode cX1_ask 80 = .ok (.if_icmp .ge 24, 3) := dk_162 0 24 (dk_at dksX1_ask_3 13 rfl rfl)
theorem dX1_ask_83 : decode cX1_ask 83 = .ok (.aload 4, 2) := dk_25 4 (dk_at dksX1_ask_3 16 rfl rfl)
theorem dX1_ask_85 : decode cX1_ask 85 = .ok (.iload 5, 2) := dk_21 5 (dk_at dksX1_ask_3 18 rfl rfl)
theorem dX1_ask_87 : decode cX1_ask 87 = .ok (.new 342, 3) := dk_187 1 86 (dk_at dksX1_ask_3 20 rfl rfl)
theorem dX1_ask_90 : decode cX1_ask 90 = .ok (.dup, 1) := dk_89 (dk_at dksX1_ask_3 23 rfl rfl)
theorem dX1_ask_91 : decode cX1_ask 91 = .ok (.aload_n 0, 1) := dk_42 (dk_at dksX1_ask_4 0 rfl rfl)
theorem dX1_ask_92 : decode cX1_ask 92 = .ok (.iload 5, 2) := dk_21 5 (dk_at dksX1_ask_4 1 rfl rfl)
theorem dX1_ask_94 : decode cX1_ask 94 = .ok (.invokespecial 479, 3) := dk_183 1 223 (dk_at dksX1_ask_4 3 rfl rfl)
theorem dX1_ask_97 : decode cX1_ask 97 = .ok (.aastore, 1) := dk_83 (dk_at dksX1_ask_4 6 rfl rfl)
theorem dX1_ask_98 : decode cX1_ask 98 = .ok (.iinc 5 1, 3) := dk_132 5 1 (dk_at dksX1_ask_4 7 rfl rfl)
theorem dX1_ask_101 : decode cX1_ask 101 = .ok (.goto (-26), 3) := dk_167 255 230 (dk_at dksX1_ask_4 10 rfl rfl)
theorem dX1_ask_104 : decode cX1_ask 104 = .ok (.iconst 0, 1) := dk_3 (dk_at dksX1_ask_4 13 rfl rfl)
theorem dX1_ask_105 : decode cX1_ask 105 = .ok (.istore 5, 2) := dk_54 5 (dk_at dksX1_ask_4 14 rfl rfl)
theorem dX1_ask_107 : decode cX1_ask 107 = .ok (.iload 5, 2) := dk_21 5 (dk_at dksX1_ask_4 16 rfl rfl)
theorem dX1_ask_109 : decode cX1_ask 109 = .ok (.aload 4, 2) := dk_25 4 (dk_at dksX1_ask_4 18 rfl rfl)
theorem dX1_ask_111 : decode cX1_ask 111 = .ok (.arraylength, 1) := dk_190 (dk_at dksX1_ask_4 20 rfl rfl)
theorem dX1_ask_112 : decode cX1_ask 112 = .ok (.if_icmp .ge 56, 3) := dk_162 0 56 (dk_at dksX1_ask_4 21 rfl rfl)
theorem dX1_ask_115 : decode cX1_ask 115 = .ok (.aload_n 0, 1) := dk_42 (dk_at dksX1_ask_5 0 rfl rfl)
theorem dX1_ask_116 : decode cX1_ask 116 = .ok (.aload 4, 2) := dk_25 4 (dk_at dksX1_ask_5 1 rfl rfl)
theorem dX1_ask_118 : decode cX1_ask 118 = .ok (.invokevirtual 482, 3) := dk_182 1 226 (dk_at dksX1_ask_5 3 rfl rfl)
theorem dX1_ask_121 : decode cX1_ask 121 = .ok (.astore 6, 2) := dk_58 6 (dk_at dksX1_ask_5 6 rfl rfl)
theorem dX1_ask_123 : decode cX1_ask 123 = .ok (.aload_n 0, 1) := dk_42 (dk_at dksX1_ask_5 8 rfl rfl)
theorem dX1_ask_124 : decode cX1_ask 124 = .ok (.aload 6, 2) := dk_25 6 (dk_at dksX1_ask_5 9 rfl rfl)
theorem dX1_ask_126 : decode cX1_ask 126 = .ok (.aload 4, 2) := dk_25 4 (dk_at dksX1_ask_5 11 rfl rfl)
theorem dX1_ask_128 : decode cX1_ask 128 = .ok (.iload_n 1, 1) := dk_27 (dk_at dksX1_ask_5 13 rfl rfl)
theorem dX1_ask_129 : decode cX1_ask 129 = .ok (.iload_n 3, 1) := dk_29 (dk_at dksX1_ask_5 14 rfl rfl)
theorem dX1_ask_130 : decode cX1_ask 130 = .ok (.iload_n 2, 1) := dk_28 (dk_at dksX1_ask_5 15 rfl rfl)
theorem dX1_ask_131 : decode cX1_ask 131 = .ok (.invokevirtual 486, 3) := dk_182 1 230 (dk_at dksX1_ask_5 16 rfl rfl)
theorem dX1_ask_134 : decode cX1_ask 134 = .ok (.aload_n 0, 1) := dk_42 (dk_at dksX1_ask_5 19 rfl rfl)
theorem dX1_ask_135 : decode cX1_ask 135 = .ok (.getfield 84, 3) := dk_180 0 84 (dk_at dksX1_ask_5 20 rfl rfl)
theorem dX1_ask_138 : decode cX1_ask 138 = .ok (.getfield 490, 3) := dk_180 1 234 (dk_at dksX1_ask_6 0 rfl rfl)
theorem dX1_ask_141 : decode cX1_ask 141 = .ok (.bipush 10, 2) := dk_16 10 (dk_at dksX1_ask_6 3 rfl rfl)
theorem dX1_ask_143 : decode cX1_ask 143 = .ok (.aload 6, 2) := dk_25 6 (dk_at dksX1_ask_6 5 rfl rfl)
theorem dX1_ask_145 : decode cX1_ask 145 = .ok (.getfield 394, 3) := dk_180 1 138 (dk_at dksX1_ask_6 7 rfl rfl)
theorem dX1_ask_148 : decode cX1_ask 148 = .ok (.imul, 1) := dk_104 (dk_at dksX1_ask_6 10 rfl rfl)
theorem dX1_ask_149 : decode cX1_ask 149 = .ok (.aload 6, 2) := dk_25 6 (dk_at dksX1_ask_6 11 rfl rfl)
theorem dX1_ask_151 : decode cX1_ask 151 = .ok (.getfield 412, 3) := dk_180 1 156 (dk_at dksX1_ask_6 13 rfl rfl)
theorem dX1_ask_154 : decode cX1_ask 154 = .ok (.iadd, 1) := dk_96 (dk_at dksX1_ask_6 16 rfl rfl)
theorem dX1_ask_155 : decode cX1_ask 155 = .ok (.invokestatic 159, 3) := dk_184 0 159 (dk_at dksX1_ask_6 17 rfl rfl)
theorem dX1_ask_158 : decode cX1_ask 158 = .ok (.invokevirtual 165, 3) := dk_182 0 165 (dk_at dksX1_ask_6 20 rfl rfl)
theorem dX1_ask_161 : decode cX1_ask 161 = .ok (.pop, 1) := dk_87 (dk_at dksX1_ask_6 23 rfl rfl)
theorem dX1_ask_162 : decode cX1_ask 162 = .ok (.iinc 5 1, 3) := dk_132 5 1 (dk_at dksX1_ask_7 0 rfl rfl)
theorem dX1_ask_165 : decode cX1_ask 165 = .ok (.goto (-58), 3) := dk_167 255 198 (dk_at dksX1_ask_7 3 rfl rfl)
theorem dX1_ask_168 : decode cX1_ask 168 = .ok (.new 4, 3) := dk_187 0 4 (dk_at dksX1_ask_7 6 rfl rfl)
theorem dX1_ask_171 : decode cX1_ask 171 = .ok (.dup, 1) := dk_89 (dk_at dksX1_ask_7 9 rfl rfl)
theorem dX1_ask_172 : decode cX1_ask 172 = .ok (.invokespecial 54, 3) := dk_183 0 54 (dk_at dksX1_ask_7 10 rfl rfl)
theorem dX1_ask_175 : decode cX1_ask 175 = .ok (.astore 5, 2) := dk_58 5 (dk_at dksX1_ask_7 13 rfl rfl)
theorem dX1_ask_177 : decode cX1_ask 177 = .ok (.iconst 0, 1) := dk_3 (dk_at dksX1_ask_7 15 rfl rfl)
theorem dX1_ask_178 : decode cX1_ask 178 = .ok (.istore 6, 2) := dk_54 6 (dk_at dksX1_ask_7 16 rfl rfl)
theorem dX1_ask_180 : decode cX1_ask 180 = .ok (.aload_n 0, 1) := dk_42 (dk_at dksX1_ask_7 18 rfl rfl)
theorem dX1_ask_181 : decode cX1_ask 181 = .ok (.getfield 155, 3) := dk_180 0 155 (dk_at dksX1_ask_7 19 rfl rfl)
theorem dX1_ask_184 : decode cX1_ask 184 = .ok (.istore 7, 2) := dk_54 7 (dk_at dksX1_ask_7 22 rfl rfl)
theorem dX1_ask_186 : decode cX1_ask 186 = .ok (.aload 4, 2) := dk_25 4 (dk_at dksX1_ask_8 0 rfl rfl)
theorem dX1_ask_188 : decode cX1_ask 188 = .ok (.astore 8, 2) := dk_58 8 (dk_at dksX1_ask_8 2 rfl rfl)
theorem dX1_ask_190 : decode cX1_ask 190 = .ok (.aload 8, 2) := dk_25 8 (dk_at dksX1_ask_8 4 rfl rfl)
theorem dX1_ask_192 : decode cX1_ask 192 = .ok (.arraylength, 1) := dk_190 (dk_at dksX1_ask_8 6 rfl rfl)
theorem dX1_ask_193 : decode cX1_ask 193 = .ok (.istore 9, 2) := dk_54 9 (dk_at dksX1_ask_8 7 rfl rfl)
theorem dX1_ask_195 : decode cX1_ask 195 = .ok (.iconst 0, 1) := dk_3 (dk_at dksX1_ask_8 9 rfl rfl)
theorem dX1_ask_196 : decode cX1_ask 196 = .ok (.istore 10, 2) := dk_54 10 (dk_at dksX1_ask_8 10 rfl rfl)
theorem dX1_ask_198 : decode cX1_ask 198 = .ok (.iload 10, 2) := dk_21 10 (dk_at dksX1_ask_8 12 rfl rfl)
theorem dX1_ask_200 : decode cX1_ask 200 = .ok (.iload 9, 2) := dk_21 9 (dk_at dksX1_ask_8 14 rfl rfl)
theorem dX1_ask_202 : decode cX1_ask 202 = .ok (.if_icmp .ge 102, 3) := dk_162 0 102 (dk_at dksX1_ask_8 16 rfl rfl)
theorem dX1_ask_205 : decode cX1_ask 205 = .ok (.aload 8, 2) := dk_25 8 (dk_at dksX1_ask_8 19 rfl rfl)
theorem dX1_ask_207 : decode cX1_ask 207 = .ok (.iload 10, 2) := dk_21 10 (dk_at dksX1_ask_8 21 rfl rfl)
theorem dX1_ask_209 : decode cX1_ask 209 = .ok (.aaload, 1) := dk_50 (dk_at dksX1_ask_8 23 rfl rfl)
theorem dX1_ask_210 : decode cX1_ask 210 = .ok (.astore 11, 2) := dk_58 11 (dk_at dksX1_ask_9 0 rfl rfl)
theorem dX1_ask_212 : decode cX1_ask 212 = .ok (.aload 5, 2) := dk_25 5 (dk_at dksX1_ask_9 2 rfl rfl)
theorem dX1_ask_214 : decode cX1_ask 214 = .ok (.aload 11, 2) := dk_25 11 (dk_at dksX1_ask_9 4 rfl rfl)
theorem dX1_ask_216 : decode cX1_ask 216 = .ok (.getfield 360, 3) := dk_180 1 104 (dk_at dksX1_ask_9 6 rfl rfl)
theorem dX1_ask_219 : decode cX1_ask 219 = .ok (.invokevirtual 165, 3) := dk_182 0 165 (dk_at dksX1_ask_9 9 rfl rfl)
theorem dX1_ask_222 : decode cX1_ask 222 = .ok (.pop, 1) := dk_87 (dk_at dksX1_ask_9 12 rfl rfl)
theorem dX1_ask_223 : decode cX1_ask 223 = .ok (.aload_n 0, 1) := dk_42 (dk_at dksX1_ask_9 13 rfl rfl)
theorem dX1_ask_224 : decode cX1_ask 224 = .ok (.getfield 84, 3) := dk_180 0 84 (dk_at dksX1_ask_9 14 rfl rfl)
theorem dX1_ask_227 : decode cX1_ask 227 = .ok (.dup, 1) := dk_89 (dk_at dksX1_ask_9 17 rfl rfl)
theorem dX1_ask_228 : decode cX1_ask 228 = .ok (.getfield 493, 3) := dk_180 1 237 (dk_at dksX1_ask_9 18 rfl rfl)
theorem dX1_ask_231 : decode cX1_ask 231 = .ok (.aload 11, 2) := dk_25 11 (dk_at dksX1_ask_9 21 rfl rfl)
theorem dX1_ask_233 : decode cX1_ask 233 = .ok (.getfield 357, 3) := dk_180 1 101 (dk_at dksX1_ask_10 0 rfl rfl)
theorem dX1_ask_236 : decode cX1_ask 236 = .ok (.ifCond .eq 13, 3) := dk_153 0 13 (dk_at dksX1_ask_10 3 rfl rfl)
theorem dX1_ask_239 : decode cX1_ask 239 = .ok (.iconst 1, 1) := dk_4 (dk_at dksX1_ask_10 6 rfl rfl)
theorem dX1_ask_240 : decode cX1_ask 240 = .ok (.aload 11, 2) := dk_25 11 (dk_at dksX1_ask_10 7 rfl rfl)
theorem dX1_ask_242 : decode cX1_ask 242 = .ok (.getfield 394, 3) := dk_180 1 138 (dk_at dksX1_ask_10 9 rfl rfl)
theorem dX1_ask_245 : decode cX1_ask 245 = .ok (.ishl, 1) := dk_120 (dk_at dksX1_ask_10 12 rfl rfl)
theorem dX1_ask_246 : decode cX1_ask 246 = .ok (.goto 4, 3) := dk_167 0 4 (dk_at dksX1_ask_10 13 rfl rfl)
theorem dX1_ask_249 : decode cX1_ask 249 = .ok (.iconst 0, 1) := dk_3 (dk_at dksX1_ask_10 16 rfl rfl)
theorem dX1_ask_250 : decode cX1_ask 250 = .ok (.ior, 1) := dk_128 (dk_at dksX1_ask_10 17 rfl rfl)
theorem dX1_ask_251 : decode cX1_ask 251 = .ok (.putfield 493, 3) := dk_181 1 237 (dk_at dksX1_ask_10 18 rfl rfl)
theorem dX1_ask_254 : decode cX1_ask 254 = .ok (.iload 6, 2) := dk_21 6 (dk_at dksX1_ask_10 21 rfl rfl)
theorem dX1_ask_256 : decode cX1_ask 256 = .ok (.aload 11, 2) := dk_25 11 (dk_at dksX1_ask_11 0 rfl rfl)
theorem dX1_ask_258 : decode cX1_ask 258 = .ok (.getfield 341, 3) := dk_180 1 85 (dk_at dksX1_ask_11 2 rfl rfl)
theorem dX1_ask_261 : decode cX1_ask 261 = .ok (.aload 11, 2) := dk_25 11 (dk_at dksX1_ask_11 5 rfl rfl)
theorem dX1_ask_263 : decode cX1_ask 263 = .ok (.getfield 367, 3) := dk_180 1 111 (dk_at dksX1_ask_11 7 rfl rfl)
theorem dX1_ask_266 : decode cX1_ask 266 = .ok (.invokevirtual 496, 3) := dk_182 1 240 (dk_at dksX1_ask_11 10 rfl rfl)
theorem dX1_ask_269 : decode cX1_ask 269 = .ok (.invokestatic 499, 3) := dk_184 1 243 (dk_at dksX1_ask_11 13 rfl rfl)
theorem dX1_ask_272 : decode cX1_ask 272 = .ok (.istore 6, 2) := dk_54 6 (dk_at dksX1_ask_11 16 rfl rfl)
theorem dX1_ask_274 : decode cX1_ask 274 = .ok (.iload 7, 2) := dk_21 7 (dk_at dksX1_ask_11 18 rfl rfl)
theorem dX1_ask_276 : decode cX1_ask 276 = .ok (.aload 11, 2) := dk_25 11 (dk_at dksX1_ask_11 20 rfl rfl)
theorem dX1_ask_278 : decode cX1_ask 278 = .ok (.getfield 341, 3) := dk_180 1 85 (dk_at dksX1_ask_12 0 rfl rfl)
theorem dX1_ask_281 : decode cX1_ask 281 = .ok (.aload 11, 2) := dk_25 11 (dk_at dksX1_ask_12 3 rfl rfl)
theorem dX1_ask_283 : decode cX1_ask 283 = .ok (.getfield 367, 3) := dk_180 1 111 (dk_at dksX1_ask_12 5 rfl rfl)
theorem dX1_ask_286 : decode cX1_ask 286 = .ok (.aload_n 0, 1) := dk_42 (dk_at dksX1_ask_12 8 rfl rfl)
theorem dX1_ask_287 : decode cX1_ask 287 = .ok (.getfield 155, 3) := dk_180 0 155 (dk_at dksX1_ask_12 9 rfl rfl)
theorem dX1_ask_290 : decode cX1_ask 290 = .ok (.invokevirtual 502, 3) := dk_182 1 246 (dk_at dksX1_ask_12 12 rfl rfl)
theorem dX1_ask_293 : decode cX1_ask 293 = .ok (.invokestatic 446, 3) := dk_184 1 190 (dk_at dksX1_ask_12 15 rfl rfl)
theorem dX1_ask_296 : decode cX1_ask 296 = .ok (.istore 7, 2) := dk_54 7 (dk_at dksX1_ask_12 18 rfl rfl)
theorem dX1_ask_298 : decode cX1_ask 298 = .ok (.iinc 10 1, 3) := dk_132 10 1 (dk_at dksX1_ask_12 20 rfl rfl)
theorem dX1_ask_301 : decode cX1_ask 301 = .ok (.goto (-103), 3) := dk_167 255 153 (dk_at dksX1_ask_13 0 rfl rfl)
theorem dX1_ask_304 : decode cX1_ask 304 = .ok (.aload_n 0, 1) := dk_42 (dk_at dksX1_ask_13 3 rfl rfl)
theorem dX1_ask_305 : decode cX1_ask 305 = .ok (.getfield 84, 3) := dk_180 0 84 (dk_at dksX1_ask_13 4 rfl rfl)
theorem dX1_ask_308 : decode cX1_ask 308 = .ok (.aload_n 0, 1) := dk_42 (dk_at dksX1_ask_13 7 rfl rfl)
theorem dX1_ask_309 : decode cX1_ask 309 = .ok (.getfield 84, 3) := dk_180 0 84 (dk_at dksX1_ask_13 8 rfl rfl)
theorem dX1_ask_312 : decode cX1_ask 312 = .ok (.getfield 493, 3) := dk_180 1 237 (dk_at dksX1_ask_13 11 rfl rfl)
theorem dX1_ask_315 : decode cX1_ask 315 = .ok (.ifCond .ne 15, 3) := dk_154 0 15 (dk_at dksX1_ask_13 14 rfl rfl)
theorem dX1_ask_318 : decode cX1_ask 318 = .ok (.iload 6, 2) := dk_21 6 (dk_at dksX1_ask_13 17 rfl rfl)
theorem dX1_ask_320 : decode cX1_ask 320 = .ok (.iload 7, 2) := dk_21 7 (dk_at dksX1_ask_13 19 rfl rfl)
theorem dX1_ask_322 : decode cX1_ask 322 = .ok (.if_icmp .gt 8, 3) := dk_163 0 8 (dk_at dksX1_ask_13 21 rfl rfl)
theorem dX1_ask_325 : decode cX1_ask 325 = .ok (.iload 7, 2) := dk_21 7 (dk_at dksX1_ask_14 0 rfl rfl)
theorem dX1_ask_327 : decode cX1_ask 327 = .ok (.goto 4, 3) := dk_167 0 4 (dk_at dksX1_ask_14 2 rfl rfl)
theorem dX1_ask_330 : decode cX1_ask 330 = .ok (.iconst (-1), 1) := dk_2 (dk_at dksX1_ask_14 5 rfl rfl)
theorem dX1_ask_331 : decode cX1_ask 331 = .ok (.putfield 505, 3) := dk_181 1 249 (dk_at dksX1_ask_14 6 rfl rfl)
theorem dX1_ask_334 : decode cX1_ask 334 = .ok (.aload_n 0, 1) := dk_42 (dk_at dksX1_ask_14 9 rfl rfl)
theorem dX1_ask_335 : decode cX1_ask 335 = .ok (.aload 5, 2) := dk_25 5 (dk_at dksX1_ask_14 10 rfl rfl)
theorem dX1_ask_337 : decode cX1_ask 337 = .ok (.aload_n 0, 1) := dk_42 (dk_at dksX1_ask_14 12 rfl rfl)
theorem dX1_ask_338 : decode cX1_ask 338 = .ok (.getfield 84, 3) := dk_180 0 84 (dk_at dksX1_ask_14 13 rfl rfl)
theorem dX1_ask_341 : decode cX1_ask 341 = .ok (.invokevirtual 508, 3) := dk_182 1 252 (dk_at dksX1_ask_14 16 rfl rfl)
theorem dX1_ask_344 : decode cX1_ask 344 = .ok (.aload_n 0, 1) := dk_42 (dk_at dksX1_ask_14 19 rfl rfl)
theorem dX1_ask_345 : decode cX1_ask 345 = .ok (.aload_n 0, 1) := dk_42 (dk_at dksX1_ask_14 20 rfl rfl)
theorem dX1_ask_346 : decode cX1_ask 346 = .ok (.getfield 84, 3) := dk_180 0 84 (dk_at dksX1_ask_14 21 rfl rfl)
theorem dX1_ask_349 : decode cX1_ask 349 = .ok (.invokevirtual 512, 3) := dk_182 2 0 (dk_at dksX1_ask_15 0 rfl rfl)
theorem dX1_ask_352 : decode cX1_ask 352 = .ok (.aload_n 0, 1) := dk_42 (dk_at dksX1_ask_15 3 rfl rfl)
theorem dX1_ask_353 : decode cX1_ask 353 = .ok (.getfield 84, 3) := dk_180 0 84 (dk_at dksX1_ask_15 4 rfl rfl)
theorem dX1_ask_356 : decode cX1_ask 356 = .ok (.getfield 474, 3) := dk_180 1 218 (dk_at dksX1_ask_15 7 rfl rfl)
theorem dX1_ask_359 : decode cX1_ask 359 = .ok (.invokevirtual 3, 3) := dk_182 0 3 (dk_at dksX1_ask_15 10 rfl rfl)
theorem dX1_ask_362 : decode cX1_ask 362 = .ok (.ireturn, 1) := dk_172 (dk_at dksX1_ask_15 13 rfl rfl)
abbrev cX1_next : ByteArray := prog_1_method_45_code
def yX1_next : MethodName := ⟨RX1, "next", "([LQueryHarbor$Seat;)LQueryHarbor$Seat;"⟩
def dkwX1_next_5 : List UInt8 := [132, 6, 1, 167, 255, 151, 44, 176]
abbrev dktX1_next_5 : List UInt8 := dkwX1_next_5 ++ []
def dkwX1_next_4 : List UInt8 := [153, 0, 8, 25, 7, 167, 0, 4, 44, 77, 44, 25, 7, 166, 0, 8, 21, 8, 167, 0, 4, 29, 62]
abbrev dktX1_next_4 : List UInt8 := dkwX1_next_4 ++ dktX1_next_5
def dkwX1_next_3 : List UInt8 := [160, 0, 19, 25, 7, 182, 1, 146, 44, 182, 1, 146, 162, 0, 7, 4, 167, 0, 4, 3, 54, 9, 21, 9]
abbrev dktX1_next_3 : List UInt8 := dkwX1_next_3 ++ dktX1_next_4
def dkwX1_next_2 : List UInt8 := [167, 0, 4, 3, 54, 8, 44, 198, 0, 30, 21, 8, 153, 0, 7, 29, 153, 0, 21, 21, 8, 29]
abbrev dktX1_next_2 : List UInt8 := dkwX1_next_2 ++ dktX1_next_3
def dkwX1_next_1 : List UInt8 := [21, 6, 50, 58, 7, 25, 7, 180, 1, 135, 154, 0, 83, 42, 25, 7, 43, 182, 1, 142, 198, 0, 7, 4]
abbrev dktX1_next_1 : List UInt8 := dkwX1_next_1 ++ dktX1_next_2
def dkwX1_next_0 : List UInt8 := [1, 77, 3, 62, 43, 58, 4, 25, 4, 190, 54, 5, 3, 54, 6, 21, 6, 21, 5, 162, 0, 104, 25, 4]
abbrev dktX1_next_0 : List UInt8 := dkwX1_next_0 ++ dktX1_next_1
theorem dksX1_next_0 : cX1_next.data.toList.drop 0 = dktX1_next_0 := by decide +kernel
theorem dksX1_next_1 : cX1_next.data.toList.drop 24 = dktX1_next_1 := dk_seg dksX1_next_0 24 rfl rfl
theorem dksX1_next_2 : cX1_next.data.toList.drop 48 = dktX1_next_2 := dk_seg dksX1_next_1 24 rfl rfl
theorem dksX1_next_3 : cX1_next.data.toList.drop 70 = dktX1_next_3 := dk_seg dksX1_next_2 22 rfl rfl
theorem dksX1_next_4 : cX1_next.data.toList.drop 94 = dktX1_next_4 := dk_seg dksX1_next_3 24 rfl rfl
theorem dksX1_next_5 : cX1_next.data.toList.drop 117 = dktX1_next_5 := dk_seg dksX1_next_4 23 rfl rfl
theorem dX1_next_0 : decode cX1_next 0 = .ok (.aconst_null, 1) := dk_1 (dk_at dksX1_next_0 0 rfl rfl)
theorem dX1_next_1 : decode cX1_next 1 = .ok (.astore_n 2, 1) := dk_77 (dk_at dksX1_next_0 1 rfl rfl)
theorem dX1_next_2 : decode cX1_next 2 = .ok (.iconst 0, 1) := dk_3 (dk_at dksX1_next_0 2 rfl rfl)
theorem dX1_next_3 : decode cX1_next 3 = .ok (.istore_n 3, 1) := dk_62 (dk_at dksX1_next_0 3 rfl rfl)
theorem dX1_next_4 : decode cX1_next 4 = .ok (.aload_n 1, 1) := dk_43 (dk_at dksX1_next_0 4 rfl rfl)
theorem dX1_next_5 : decode cX1_next 5 = .ok (.astore 4, 2) := dk_58 4 (dk_at dksX1_next_0 5 rfl rfl)
theorem dX1_next_7 : decode cX1_next 7 = .ok (.aload 4, 2) := dk_25 4 (dk_at dksX1_next_0 7 rfl rfl)
theorem dX1_next_9 : decode cX1_next 9 = .ok (.arraylength, 1) := dk_190 (dk_at dksX1_next_0 9 rfl rfl)
theorem dX1_next_10 : decode cX1_next 10 = .ok (.istore 5, 2) := dk_54 5 (dk_at dksX1_next_0 10 rfl rfl)
theorem dX1_next_12 : decode cX1_next 12 = .ok (.iconst 0, 1) := dk_3 (dk_at dksX1_next_0 12 rfl rfl)
theorem dX1_next_13 : decode cX1_next 13 = .ok (.istore 6, 2) := dk_54 6 (dk_at dksX1_next_0 13 rfl rfl)
theorem dX1_next_15 : decode cX1_next 15 = .ok (.iload 6, 2) := dk_21 6 (dk_at dksX1_next_0 15 rfl rfl)
theorem dX1_next_17 : decode cX1_next 17 = .ok (.iload 5, 2) := dk_21 5 (dk_at dksX1_next_0 17 rfl rfl)
theorem dX1_next_19 : decode cX1_next 19 = .ok (.if_icmp .ge 104, 3) := dk_162 0 104 (dk_at dksX1_next_0 19 rfl rfl)
theorem dX1_next_22 : decode cX1_next 22 = .ok (.aload 4, 2) := dk_25 4 (dk_at dksX1_next_0 22 rfl rfl)
theorem dX1_next_24 : decode cX1_next 24 = .ok (.iload 6, 2) := dk_21 6 (dk_at dksX1_next_1 0 rfl rfl)
theorem dX1_next_26 : decode cX1_next 26 = .ok (.aaload, 1) := dk_50 (dk_at dksX1_next_1 2 rfl rfl)
theorem dX1_next_27 : decode cX1_next 27 = .ok (.astore 7, 2) := dk_58 7 (dk_at dksX1_next_1 3 rfl rfl)
theorem dX1_next_29 : decode cX1_next 29 = .ok (.aload 7, 2) := dk_25 7 (dk_at dksX1_next_1 5 rfl rfl)
theorem dX1_next_31 : decode cX1_next 31 = .ok (.getfield 391, 3) := dk_180 1 135 (dk_at dksX1_next_1 7 rfl rfl)
theorem dX1_next_34 : decode cX1_next 34 = .ok (.ifCond .ne 83, 3) := dk_154 0 83 (dk_at dksX1_next_1 10 rfl rfl)
theorem dX1_next_37 : decode cX1_next 37 = .ok (.aload_n 0, 1) := dk_42 (dk_at dksX1_next_1 13 rfl rfl)
theorem dX1_next_38 : decode cX1_next 38 = .ok (.aload 7, 2) := dk_25 7 (dk_at dksX1_next_1 14 rfl rfl)
theorem dX1_next_40 : decode cX1_next 40 = .ok (.aload_n 1, 1) := dk_43 (dk_at dksX1_next_1 16 rfl rfl)
theorem dX1_next_41 : decode cX1_next 41 = .ok (.invokevirtual 398, 3) := dk_182 1 142 (dk_at dksX1_next_1 17 rfl rfl)
theorem dX1_next_44 : decode cX1_next 44 = .ok (.ifnull 7, 3) := dk_198 0 7 (dk_at dksX1_next_1 20 rfl rfl)
theorem dX1_next_47 : decode cX1_next 47 = .ok (.iconst 1, 1) := dk_4 (dk_at dksX1_next_1 23 rfl rfl)
theorem dX1_next_48 : decode cX1_next 48 = .ok (.goto 4, 3) := dk_167 0 4 (dk_at dksX1_next_2 0 rfl rfl)
theorem dX1_next_51 : decode cX1_next 51 = .ok (.iconst 0, 1) := dk_3 (dk_at dksX1_next_2 3 rfl rfl)
theorem dX1_next_52 : decode cX1_next 52 = .ok (.istore 8, 2) := dk_54 8 (dk_at dksX1_next_2 4 rfl rfl)
theorem dX1_next_54 : decode cX1_next 54 = .ok (.aload_n 2, 1) := dk_44 (dk_at dksX1_next_2 6 rfl rfl)
theorem dX1_next_55 : decode cX1_next 55 = .ok (.ifnull 30, 3) := dk_198 0 30 (dk_at dksX1_next_2 7 rfl rfl)
theorem dX1_next_58 : decode cX1_next 58 = .ok (.iload 8, 2) := dk_21 8 (dk_at dksX1_next_2 10 rfl rfl)
theorem dX1_next_60 : decode cX1_next 60 = .ok (.ifCond .eq 7, 3) := dk_153 0 7 (dk_at dksX1_next_2 12 rfl rfl)
theorem dX1_next_63 : decode cX1_next 63 = .ok (.iload_n 3, 1) := dk_29 (dk_at dksX1_next_2 15 rfl rfl)
theorem dX1_next_64 : decode cX1_next 64 = .ok (.ifCond .eq 21, 3) := dk_153 0 21 (dk_at dksX1_next_2 16 rfl rfl)
theorem dX1_next_67 : decode cX1_next 67 = .ok (.iload 8, 2) := dk_21 8 (dk_at dksX1_next_2 19 rfl rfl)
theorem dX1_next_69 : decode cX1_next 69 = .ok (.iload_n 3, 1) := dk_29 (dk_at dksX1_next_2 21 rfl rfl)
theorem dX1_next_70 : decode cX1_next 70 = .ok (.if_icmp .ne 19, 3) := dk_160 0 19 (dk_at dksX1_next_3 0 rfl rfl)
theorem dX1_next_73 : decode cX1_next 73 = .ok (.aload 7, 2) := dk_25 7 (dk_at dksX1_next_3 3 rfl rfl)
theorem dX1_next_75 : decode cX1_next 75 = .ok (.invokevirtual 402, 3) := dk_182 1 146 (dk_at dksX1_next_3 5 rfl rfl)
theorem dX1_next_78 : decode cX1_next 78 = .ok (.aload_n 2, 1) := dk_44 (dk_at dksX1_next_3 8 rfl rfl)
theorem dX1_next_79 : decode cX1_next 79 = .ok (.invokevirtual 402, 3) := dk_182 1 146 (dk_at dksX1_next_3 9 rfl rfl)
theorem dX1_next_82 : decode cX1_next 82 = .ok (.if_icmp .ge 7, 3) := dk_162 0 7 (dk_at dksX1_next_3 12 rfl rfl)
theorem dX1_next_85 : decode cX1_next 85 = .ok (.iconst 1, 1) := dk_4 (dk_at dksX1_next_3 15 rfl rfl)
theorem dX1_next_86 : decode cX1_next 86 = .ok (.goto 4, 3) := dk_167 0 4 (dk_at dksX1_next_3 16 rfl rfl)
theorem dX1_next_89 : decode cX1_next 89 = .ok (.iconst 0, 1) := dk_3 (dk_at dksX1_next_3 19 rfl rfl)
theorem dX1_next_90 : decode cX1_next 90 = .ok (.istore 9, 2) := dk_54 9 (dk_at dksX1_next_3 20 rfl rfl)
theorem dX1_next_92 : decode cX1_next 92 = .ok (.iload 9, 2) := dk_21 9 (dk_at dksX1_next_3 22 rfl rfl)
theorem dX1_next_94 : decode cX1_next 94 = .ok (.ifCond .eq 8, 3) := dk_153 0 8 (dk_at dksX1_next_4 0 rfl rfl)
theorem dX1_next_97 : decode cX1_next 97 = .ok (.aload 7, 2) := dk_25 7 (dk_at dksX1_next_4 3 rfl rfl)
theorem dX1_next_99 : decode cX1_next 99 = .ok (.goto 4, 3) := dk_167 0 4 (dk_at dksX1_next_4 5 rfl rfl)
theorem dX1_next_102 : decode cX1_next 102 = .ok (.aload_n 2, 1) := dk_44 (dk_at dksX1_next_4 8 rfl rfl)
theorem dX1_next_103 : decode cX1_next 103 = .ok (.astore_n 2, 1) := dk_77 (dk_at dksX1_next_4 9 rfl rfl)
theorem dX1_next_104 : decode cX1_next 104 = .ok (.aload_n 2, 1) := dk_44 (dk_at dksX1_next_4 10 rfl rfl)
theorem dX1_next_105 : decode cX1_next 105 = .ok (.aload 7, 2) := dk_25 7 (dk_at dksX1_next_4 11 rfl rfl)
theorem dX1_next_107 : decode cX1_next 107 = .ok (.if_acmp .ne 8, 3) := dk_166 0 8 (dk_at dksX1_next_4 13 rfl rfl)
theorem dX1_next_110 : decode cX1_next 110 = .ok (.iload 8, 2) := dk_21 8 (dk_at dksX1_next_4 16 rfl rfl)
theorem dX1_next_112 : decode cX1_next 112 = .ok (.goto 4, 3) := dk_167 0 4 (dk_at dksX1_next_4 18 rfl rfl)
theorem dX1_next_115 : decode cX1_next 115 = .ok (.iload_n 3, 1) := dk_29 (dk_at dksX1_next_4 21 rfl rfl)
theorem dX1_next_116 : decode cX1_next 116 = .ok (.istore_n 3, 1) := dk_62 (dk_at dksX1_next_4 22 rfl rfl)
theorem dX1_next_117 : decode cX1_next 117 = .ok (.iinc 6 1, 3) := dk_132 6 1 (dk_at dksX1_next_5 0 rfl rfl)
theorem dX1_next_120 : decode cX1_next 120 = .ok (.goto (-105), 3) := dk_167 255 151 (dk_at dksX1_next_5 3 rfl rfl)
theorem dX1_next_123 : decode cX1_next 123 = .ok (.aload_n 2, 1) := dk_44 (dk_at dksX1_next_5 6 rfl rfl)
theorem dX1_next_124 : decode cX1_next 124 = .ok (.areturn, 1) := dk_176 (dk_at dksX1_next_5 7 rfl rfl)
abbrev cX1_linkOf : ByteArray := prog_1_method_44_code
def yX1_linkOf : MethodName := ⟨RX1, "linkOf", "(LQueryHarbor$Seat;[LQueryHarbor$Seat;)LQueryHarbor$Link;"⟩
def dkwX1_linkOf_3 : List UInt8 := [182, 1, 139, 153, 0, 6, 25, 4, 176, 132, 7, 1, 167, 255, 211, 132, 3, 1, 167, 255, 170, 1, 176]
abbrev dktX1_linkOf_3 : List UInt8 := dkwX1_linkOf_3 ++ []
def dkwX1_linkOf_2 : List UInt8 := [50, 58, 8, 25, 8, 180, 1, 135, 153, 0, 23, 25, 4, 43, 180, 1, 138, 25, 8, 180, 1, 138]
abbrev dktX1_linkOf_2 : List UInt8 := dkwX1_linkOf_2 ++ dktX1_linkOf_3
def dkwX1_linkOf_1 : List UInt8 := [58, 4, 44, 58, 5, 25, 5, 190, 54, 6, 3, 54, 7, 21, 7, 21, 6, 162, 0, 44, 25, 5, 21, 7]
abbrev dktX1_linkOf_1 : List UInt8 := dkwX1_linkOf_1 ++ dktX1_linkOf_2
def dkwX1_linkOf_0 : List UInt8 := [3, 62, 29, 42, 180, 0, 65, 182, 0, 3, 162, 0, 81, 42, 180, 0, 65, 29, 182, 0, 9, 192, 1, 32]
abbrev dktX1_linkOf_0 : List UInt8 := dkwX1_linkOf_0 ++ dktX1_linkOf_1
theorem dksX1_linkOf_0 : cX1_linkOf.data.toList.drop 0 = dktX1_linkOf_0 := by decide +kernel
theorem dksX1_linkOf_1 : cX1_linkOf.data.toList.drop 24 = dktX1_linkOf_1 := dk_seg dksX1_linkOf_0 24 rfl rfl
theorem dksX1_linkOf_2 : cX1_linkOf.data.toList.drop 48 = dktX1_linkOf_2 := dk_seg dksX1_linkOf_1 24 rfl rfl
theorem dksX1_linkOf_3 : cX1_linkOf.data.toList.drop 70 = dktX1_linkOf_3 := dk_seg dksX1_linkOf_2 22 rfl rfl
theorem dX1_linkOf_0 : decode cX1_linkOf 0 = .ok (.iconst 0, 1) := dk_3 (dk_at dksX1_linkOf_0 0 rfl rfl)
theorem dX1_linkOf_1 : decode cX1_linkOf 1 = .ok (.istore_n 3, 1) := dk_62 (dk_at dksX1_linkOf_0 1 rfl rfl)
theorem dX1_linkOf_2 : decode cX1_linkOf 2 = .ok (.iload_n 3, 1) := dk_29 (dk_at dksX1_linkOf_0 2 rfl rfl)
theorem dX1_linkOf_3 : decode cX1_linkOf 3 = .ok (.aload_n 0, 1) := dk_42 (dk_at dksX1_linkOf_0 3 rfl rfl)
theorem dX1_linkOf_4 : decode cX1_linkOf 4 = .ok (.getfield 65, 3) := dk_180 0 65 (dk_at dksX1_linkOf_0 4 rfl rfl)
theorem dX1_linkOf_7 : decode cX1_linkOf 7 = .ok (.invokevirtual 3, 3) := dk_182 0 3 (dk_at dksX1_linkOf_0 7 rfl rfl)
theorem dX1_linkOf_10 : decode cX1_linkOf 10 = .ok (.if_icmp .ge 81, 3) := dk_162 0 81 (dk_at dksX1_linkOf_0 10 rfl rfl)
theorem dX1_linkOf_13 : decode cX1_linkOf 13 = .ok (.aload_n 0, 1) := dk_42 (dk_at dksX1_linkOf_0 13 rfl rfl)
theorem dX1_linkOf_14 : decode cX1_linkOf 14 = .ok (.getfield 65, 3) := dk_180 0 65 (dk_at dksX1_linkOf_0 14 rfl rfl)
theorem dX1_linkOf_17 : decode cX1_linkOf 17 = .ok (.iload_n 3, 1) := dk_29 (dk_at dksX1_linkOf_0 17 rfl rfl)
theorem dX1_linkOf_18 : decode cX1_linkOf 18 = .ok (.invokevirtual 9, 3) := dk_182 0 9 (dk_at dksX1_linkOf_0 18 rfl rfl)
theorem dX1_linkOf_21 : decode cX1_linkOf 21 = .ok (.checkcast 288, 3) := dk_192 1 32 (dk_at dksX1_linkOf_0 21 rfl rfl)
theorem dX1_linkOf_24 : decode cX1_linkOf 24 = .ok (.astore 4, 2) := dk_58 4 (dk_at dksX1_linkOf_1 0 rfl rfl)
theorem dX1_linkOf_26 : decode cX1_linkOf 26 = .ok (.aload_n 2, 1) := dk_44 (dk_at dksX1_linkOf_1 2 rfl rfl)
theorem dX1_linkOf_27 : decode cX1_linkOf 27 = .ok (.astore 5, 2) := dk_58 5 (dk_at dksX1_linkOf_1 3 rfl rfl)
theorem dX1_linkOf_29 : decode cX1_linkOf 29 = .ok (.aload 5, 2) := dk_25 5 (dk_at dksX1_linkOf_1 5 rfl rfl)
theorem dX1_linkOf_31 : decode cX1_linkOf 31 = .ok (.arraylength, 1) := dk_190 (dk_at dksX1_linkOf_1 7 rfl rfl)
theorem dX1_linkOf_32 : decode cX1_linkOf 32 = .ok (.istore 6, 2) := dk_54 6 (dk_at dksX1_linkOf_1 8 rfl rfl)
theorem dX1_linkOf_34 : decode cX1_linkOf 34 = .ok (.iconst 0, 1) := dk_3 (dk_at dksX1_linkOf_1 10 rfl rfl)
theorem dX1_linkOf_35 : decode cX1_linkOf 35 = .ok (.istore 7, 2) := dk_54 7 (dk_at dksX1_linkOf_1 11 rfl rfl)
theorem dX1_linkOf_37 : decode cX1_linkOf 37 = .ok (.iload 7, 2) := dk_21 7 (dk_at dksX1_linkOf_1 13 rfl rfl)
theorem dX1_linkOf_39 : decode cX1_linkOf 39 = .ok (.iload 6, 2) := dk_21 6 (dk_at dksX1_linkOf_1 15 rfl rfl)
theorem dX1_linkOf_41 : decode cX1_linkOf 41 = .ok (.if_icmp .ge 44, 3) := dk_162 0 44 (dk_at dksX1_linkOf_1 17 rfl rfl)
theorem dX1_linkOf_44 : decode cX1_linkOf 44 = .ok (.aload 5, 2) := dk_25 5 (dk_at dksX1_linkOf_1 20 rfl rfl)
theorem dX1_linkOf_46 : decode cX1_linkOf 46 = .ok (.iload 7, 2) := dk_21 7 (dk_at dksX1_linkOf_1 22 rfl rfl)
theorem dX1_linkOf_48 : decode cX1_linkOf 48 = .ok (.aaload, 1) := dk_50 (dk_at dksX1_linkOf_2 0 rfl rfl)
theorem dX1_linkOf_49 : decode cX1_linkOf 49 = .ok (.astore 8, 2) := dk_58 8 (dk_at dksX1_linkOf_2 1 rfl rfl)
theorem dX1_linkOf_51 : decode cX1_linkOf 51 = .ok (.aload 8, 2) := dk_25 8 (dk_at dksX1_linkOf_2 3 rfl rfl)
theorem dX1_linkOf_53 : decode cX1_linkOf 53 = .ok (.getfield 391, 3) := dk_180 1 135 (dk_at dksX1_linkOf_2 5 rfl rfl)
theorem dX1_linkOf_56 : decode cX1_linkOf 56 = .ok (.ifCond .eq 23, 3) := dk_153 0 23 (dk_at dksX1_linkOf_2 8 rfl rfl)
theorem dX1_linkOf_59 : decode cX1_linkOf 59 = .ok (.aload 4, 2) := dk_25 4 (dk_at dksX1_linkOf_2 11 rfl rfl)
theorem dX1_linkOf_61 : decode cX1_linkOf 61 = .ok (.aload_n 1, 1) := dk_43 (dk_at dksX1_linkOf_2 13 rfl rfl)
theorem dX1_linkOf_62 : decode cX1_linkOf 62 = .ok (.getfield 394, 3) := dk_180 1 138 (dk_at dksX1_linkOf_2 14 rfl rfl)
theorem dX1_linkOf_65 : decode cX1_linkOf 65 = .ok (.aload 8, 2) := dk_25 8 (dk_at dksX1_linkOf_2 17 rfl rfl)
theorem dX1_linkOf_67 : decode cX1_linkOf 67 = .ok (.getfield 394, 3) := dk_180 1 138 (dk_at dksX1_linkOf_2 19 rfl rfl)
theorem dX1_linkOf_70 : decode cX1_linkOf 70 = .ok (.invokevirtual 395, 3) := dk_182 1 139 (dk_at dksX1_linkOf_3 0 rfl rfl)
theorem dX1_linkOf_73 : decode cX1_linkOf 73 = .ok (.ifCond .eq 6, 3) := dk_153 0 6 (dk_at dksX1_linkOf_3 3 rfl rfl)
theorem dX1_linkOf_76 : decode cX1_linkOf 76 = .ok (.aload 4, 2) := dk_25 4 (dk_at dksX1_linkOf_3 6 rfl rfl)
theorem dX1_linkOf_78 : decode cX1_linkOf 78 = .ok (.areturn, 1) := dk_176 (dk_at dksX1_linkOf_3 8 rfl rfl)
theorem dX1_linkOf_79 : decode cX1_linkOf 79 = .ok (.iinc 7 1, 3) := dk_132 7 1 (dk_at dksX1_linkOf_3 9 rfl rfl)
theorem dX1_linkOf_82 : decode cX1_linkOf 82 = .ok (.goto (-45), 3) := dk_167 255 211 (dk_at dksX1_linkOf_3 12 rfl rfl)
theorem dX1_linkOf_85 : decode cX1_linkOf 85 = .ok (.iinc 3 1, 3) := dk_132 3 1 (dk_at dksX1_linkOf_3 15 rfl rfl)
theorem dX1_linkOf_88 : decode cX1_linkOf 88 = .ok (.goto (-86), 3) := dk_167 255 170 (dk_at dksX1_linkOf_3 18 rfl rfl)
theorem dX1_linkOf_91 : decode cX1_linkOf 91 = .ok (.aconst_null, 1) := dk_1 (dk_at dksX1_linkOf_3 21 rfl rfl)
theorem dX1_linkOf_92 : decode cX1_linkOf 92 = .ok (.areturn, 1) := dk_176 (dk_at dksX1_linkOf_3 22 rfl rfl)
abbrev cX1_take : ByteArray := prog_1_method_47_code
def yX1_take : MethodName := ⟨RX1, "take", "(LQueryHarbor$Seat;[LQueryHarbor$Seat;III)V"⟩
def dkwX1_take_5 : List UInt8 := [177]
abbrev dktX1_take_5 : List UInt8 := dkwX1_take_5 ++ []
def dkwX1_take_4 : List UInt8 := [182, 1, 166, 154, 0, 12, 42, 43, 21, 4, 21, 5, 182, 1, 170, 43, 4, 181, 1, 135, 43, 182, 1, 174]
abbrev dktX1_take_4 : List UInt8 := dkwX1_take_4 ++ dktX1_take_5
def dkwX1_take_3 : List UInt8 := [160, 0, 11, 25, 7, 180, 1, 163, 167, 0, 8, 25, 7, 180, 1, 160, 50, 25, 7, 21, 4, 21, 5]
abbrev dktX1_take_3 : List UInt8 := dkwX1_take_3 ++ dktX1_take_4
def dkwX1_take_2 : List UInt8 := [181, 1, 111, 167, 0, 58, 25, 7, 198, 0, 44, 42, 43, 44, 25, 7, 180, 1, 160, 43, 180, 1, 138]
abbrev dktX1_take_2 : List UInt8 := dkwX1_take_2 ++ dktX1_take_3
def dkwX1_take_1 : List UInt8 := [198, 0, 29, 43, 3, 181, 1, 156, 43, 25, 6, 180, 1, 159, 181, 1, 104, 43, 25, 6, 180, 0, 151]
abbrev dktX1_take_1 : List UInt8 := dkwX1_take_1 ++ dktX1_take_2
def dkwX1_take_0 : List UInt8 := [42, 43, 29, 182, 1, 152, 58, 6, 42, 43, 44, 182, 1, 142, 58, 7, 43, 6, 181, 1, 156, 25, 6]
abbrev dktX1_take_0 : List UInt8 := dkwX1_take_0 ++ dktX1_take_1
theorem dksX1_take_0 : cX1_take.data.toList.drop 0 = dktX1_take_0 := by decide +kernel
theorem dksX1_take_1 : cX1_take.data.toList.drop 23 = dktX1_take_1 := dk_seg dksX1_take_0 23 rfl rfl
theorem dksX1_take_2 : cX1_take.data.toList.drop 46 = dktX1_take_2 := dk_seg dksX1_take_1 23 rfl rfl
theorem dksX1_take_3 : cX1_take.data.toList.drop 69 = dktX1_take_3 := dk_seg dksX1_take_2 23 rfl rfl
theorem dksX1_take_4 : cX1_take.data.toList.drop 92 = dktX1_take_4 := dk_seg dksX1_take_3 23 rfl rfl
theorem dksX1_take_5 : cX1_take.data.toList.drop 116 = dktX1_take_5 := dk_seg dksX1_take_4 24 rfl rfl
theorem dX1_take_0 : decode cX1_take 0 = .ok (.aload_n 0, 1) := dk_42 (dk_at dksX1_take_0 0 rfl rfl)
theorem dX1_take_1 : decode cX1_take 1 = .ok (.aload_n 1, 1) := dk_43 (dk_at dksX1_take_0 1 rfl rfl)
theorem dX1_take_2 : decode cX1_take 2 = .ok (.iload_n 3, 1) := dk_29 (dk_at dksX1_take_0 2 rfl rfl)
theorem dX1_take_3 : decode cX1_take 3 = .ok (.invokevirtual 408, 3) := dk_182 1 152 (dk_at dksX1_take_0 3 rfl rfl)
theorem dX1_take_6 : decode cX1_take 6 = .ok (.astore 6, 2) := dk_58 6 (dk_at dksX1_take_0 6 rfl rfl)
theorem dX1_take_8 : decode cX1_take 8 = .ok (.aload_n 0, 1) := dk_42 (dk_at dksX1_take_0 8 rfl rfl)
theorem dX1_take_9 : decode cX1_take 9 = .ok (.aload_n 1, 1) := dk_43 (dk_at dksX1_take_0 9 rfl rfl)
theorem dX1_take_10 : decode cX1_take 10 = .ok (.aload_n 2, 1) := dk_44 (dk_at dksX1_take_0 10 rfl rfl)
theorem dX1_take_11 : decode cX1_take 11 = .ok (.invokevirtual 398, 3) := dk_182 1 142 (dk_at dksX1_take_0 11 rfl rfl)
theorem dX1_take_14 : decode cX1_take 14 = .ok (.astore 7, 2) := dk_58 7 (dk_at dksX1_take_0 14 rfl rfl)
theorem dX1_take_16 : decode cX1_take 16 = .ok (.aload_n 1, 1) := dk_43 (dk_at dksX1_take_0 16 rfl rfl)
theorem dX1_take_17 : decode cX1_take 17 = .ok (.iconst 3, 1) := dk_6 (dk_at dksX1_take_0 17 rfl rfl)
theorem dX1_take_18 : decode cX1_take 18 = .ok (.putfield 412, 3) := dk_181 1 156 (dk_at dksX1_take_0 18 rfl rfl)
theorem dX1_take_21 : decode cX1_take 21 = .ok (.aload 6, 2) := dk_25 6 (dk_at dksX1_take_0 21 rfl rfl)
theorem dX1_take_23 : decode cX1_take 23 = .ok (.ifnull 29, 3) := dk_198 0 29 (dk_at dksX1_take_1 0 rfl rfl)
theorem dX1_take_26 : decode cX1_take 26 = .ok (.aload_n 1, 1) := dk_43 (dk_at dksX1_take_1 3 rfl rfl)
theorem dX1_take_27 : decode cX1_take 27 = .ok (.iconst 0, 1) := dk_3 (dk_at dksX1_take_1 4 rfl rfl)
theorem dX1_take_28 : decode cX1_take 28 = .ok (.putfield 412, 3) := dk_181 1 156 (dk_at dksX1_take_1 5 rfl rfl)
theorem dX1_take_31 : decode cX1_take 31 = .ok (.aload_n 1, 1) := dk_43 (dk_at dksX1_take_1 8 rfl rfl)
theorem dX1_take_32 : decode cX1_take 32 = .ok (.aload 6, 2) := dk_25 6 (dk_at dksX1_take_1 9 rfl rfl)
theorem dX1_take_34 : decode cX1_take 34 = .ok (.getfield 415, 3) := dk_180 1 159 (dk_at dksX1_take_1 11 rfl rfl)
theorem dX1_take_37 : decode cX1_take 37 = .ok (.putfield 360, 3) := dk_181 1 104 (dk_at dksX1_take_1 14 rfl rfl)
theorem dX1_take_40 : decode cX1_take 40 = .ok (.aload_n 1, 1) := dk_43 (dk_at dksX1_take_1 17 rfl rfl)
theorem dX1_take_41 : decode cX1_take 41 = .ok (.aload 6, 2) := dk_25 6 (dk_at dksX1_take_1 18 rfl rfl)
theorem dX1_take_43 : decode cX1_take 43 = .ok (.getfield 151, 3) := dk_180 0 151 (dk_at dksX1_take_1 20 rfl rfl)
theorem dX1_take_46 : decode cX1_take 46 = .ok (.putfield 367, 3) := dk_181 1 111 (dk_at dksX1_take_2 0 rfl rfl)
theorem dX1_take_49 : decode cX1_take 49 = .ok (.goto 58, 3) := dk_167 0 58 (dk_at dksX1_take_2 3 rfl rfl)
theorem dX1_take_52 : decode cX1_take 52 = .ok (.aload 7, 2) := dk_25 7 (dk_at dksX1_take_2 6 rfl rfl)
theorem dX1_take_54 : decode cX1_take 54 = .ok (.ifnull 44, 3) := dk_198 0 44 (dk_at dksX1_take_2 8 rfl rfl)
theorem dX1_take_57 : decode cX1_take 57 = .ok (.aload_n 0, 1) := dk_42 (dk_at dksX1_take_2 11 rfl rfl)
theorem dX1_take_58 : decode cX1_take 58 = .ok (.aload_n 1, 1) := dk_43 (dk_at dksX1_take_2 12 rfl rfl)
theorem dX1_take_59 : decode cX1_take 59 = .ok (.aload_n 2, 1) := dk_44 (dk_at dksX1_take_2 13 rfl rfl)
theorem dX1_take_60 : decode cX1_take 60 = .ok (.aload 7, 2) := dk_25 7 (dk_at dksX1_take_2 14 rfl rfl)
theorem dX1_take_62 : decode cX1_take 62 = .ok (.getfield 416, 3) := dk_180 1 160 (dk_at dksX1_take_2 16 rfl rfl)
theorem dX1_take_65 : decode cX1_take 65 = .ok (.aload_n 1, 1) := dk_43 (dk_at dksX1_take_2 19 rfl rfl)
theorem dX1_take_66 : decode cX1_take 66 = .ok (.getfield 394, 3) := dk_180 1 138 (dk_at dksX1_take_2 20 rfl rfl)
theorem dX1_take_69 : decode cX1_take 69 = .ok (.if_icmp .ne 11, 3) := dk_160 0 11 (dk_at dksX1_take_3 0 rfl rfl)
theorem dX1_take_72 : decode cX1_take 72 = .ok (.aload 7, 2) := dk_25 7 (dk_at dksX1_take_3 3 rfl rfl)
theorem dX1_take_74 : decode cX1_take 74 = .ok (.getfield 419, 3) := dk_180 1 163 (dk_at dksX1_take_3 5 rfl rfl)
theorem dX1_take_77 : decode cX1_take 77 = .ok (.goto 8, 3) := dk_167 0 8 (dk_at dksX1_take_3 8 rfl rfl)
theorem dX1_take_80 : decode cX1_take 80 = .ok (.aload 7, 2) := dk_25 7 (dk_at dksX1_take_3 11 rfl rfl)
theorem dX1_take_82 : decode cX1_take 82 = .ok (.getfield 416, 3) := dk_180 1 160 (dk_at dksX1_take_3 13 rfl rfl)
theorem dX1_take_85 : decode cX1_take 85 = .ok (.aaload, 1) := dk_50 (dk_at dksX1_take_3 16 rfl rfl)
theorem dX1_take_86 : decode cX1_take 86 = .ok (.aload 7, 2) := dk_25 7 (dk_at dksX1_take_3 17 rfl rfl)
theorem dX1_take_88 : decode cX1_take 88 = .ok (.iload 4, 2) := dk_21 4 (dk_at dksX1_take_3 19 rfl rfl)
theorem dX1_take_90 : decode cX1_take 90 = .ok (.iload 5, 2) := dk_21 5 (dk_at dksX1_take_3 21 rfl rfl)
theorem dX1_take_92 : decode cX1_take 92 = .ok (.invokevirtual 422, 3) := dk_182 1 166 (dk_at dksX1_take_4 0 rfl rfl)
theorem dX1_take_95 : decode cX1_take 95 = .ok (.ifCond .ne 12, 3) := dk_154 0 12 (dk_at dksX1_take_4 3 rfl rfl)
theorem dX1_take_98 : decode cX1_take 98 = .ok (.aload_n 0, 1) := dk_42 (dk_at dksX1_take_4 6 rfl rfl)
theorem dX1_take_99 : decode cX1_take 99 = .ok (.aload_n 1, 1) := dk_43 (dk_at dksX1_take_4 7 rfl rfl)
theorem dX1_take_100 : decode cX1_take 100 = .ok (.iload 4, 2) := dk_21 4 (dk_at dksX1_take_4 8 rfl rfl)
theorem dX1_take_102 : decode cX1_take 102 = .ok (.iload 5, 2) := dk_21 5 (dk_at dksX1_take_4 10 rfl rfl)
theorem dX1_take_104 : decode cX1_take 104 = .ok (.invokevirtual 426, 3) := dk_182 1 170 (dk_at dksX1_take_4 12 rfl rfl)
theorem dX1_take_107 : decode cX1_take 107 = .ok (.aload_n 1, 1) := dk_43 (dk_at dksX1_take_4 15 rfl rfl)
theorem dX1_take_108 : decode cX1_take 108 = .ok (.iconst 1, 1) := dk_4 (dk_at dksX1_take_4 16 rfl rfl)
theorem dX1_take_109 : decode cX1_take 109 = .ok (.putfield 391, 3) := dk_181 1 135 (dk_at dksX1_take_4 17 rfl rfl)
theorem dX1_take_112 : decode cX1_take 112 = .ok (.aload_n 1, 1) := dk_43 (dk_at dksX1_take_4 20 rfl rfl)
theorem dX1_take_113 : decode cX1_take 113 = .ok (.invokevirtual 430, 3) := dk_182 1 174 (dk_at dksX1_take_4 21 rfl rfl)
theorem dX1_take_116 : decode cX1_take 116 = .ok (.return_, 1) := dk_177 (dk_at dksX1_take_5 0 rfl rfl)
abbrev cX1_entryFor : ByteArray := prog_1_method_42_code
def yX1_entryFor : MethodName := ⟨RX1, "entryFor", "(LQueryHarbor$Seat;I)LQueryHarbor$Entry;"⟩
def dkwX1_entryFor_5 : List UInt8 := [167, 0, 4, 45, 78, 132, 4, 1, 167, 255, 135, 45, 176]
abbrev dktX1_entryFor_5 : List UInt8 := dkwX1_entryFor_5 ++ []
def dkwX1_entryFor_4 : List UInt8 := [43, 180, 1, 94, 184, 1, 127, 126, 54, 6, 132, 7, 1, 167, 255, 215, 21, 6, 153, 0, 8, 25, 5]
abbrev dktX1_entryFor_4 : List UInt8 := dkwX1_entryFor_4 ++ dktX1_entryFor_5
def dkwX1_entryFor_3 : List UInt8 := [180, 1, 126, 182, 0, 3, 162, 0, 34, 21, 6, 25, 5, 180, 1, 126, 21, 7, 182, 0, 9, 192, 0, 13]
abbrev dktX1_entryFor_3 : List UInt8 := dkwX1_entryFor_3 ++ dktX1_entryFor_4
def dkwX1_entryFor_2 : List UInt8 := [25, 5, 180, 0, 133, 100, 28, 163, 0, 7, 4, 167, 0, 4, 3, 54, 6, 3, 54, 7, 21, 7, 25, 5]
abbrev dktX1_entryFor_2 : List UInt8 := dkwX1_entryFor_2 ++ dktX1_entryFor_3
def dkwX1_entryFor_1 : List UInt8 := [182, 0, 9, 192, 0, 131, 58, 5, 25, 5, 180, 0, 136, 43, 180, 1, 85, 166, 0, 21, 42, 180, 0, 116]
abbrev dktX1_entryFor_1 : List UInt8 := dkwX1_entryFor_1 ++ dktX1_entryFor_2
def dkwX1_entryFor_0 : List UInt8 := [1, 78, 3, 54, 4, 21, 4, 42, 180, 0, 59, 182, 0, 3, 162, 0, 115, 42, 180, 0, 59, 21, 4]
abbrev dktX1_entryFor_0 : List UInt8 := dkwX1_entryFor_0 ++ dktX1_entryFor_1
theorem dksX1_entryFor_0 : cX1_entryFor.data.toList.drop 0 = dktX1_entryFor_0 := by decide +kernel
theorem dksX1_entryFor_1 : cX1_entryFor.data.toList.drop 23 = dktX1_entryFor_1 := dk_seg dksX1_entryFor_0 23 rfl rfl
theorem dksX1_entryFor_2 : cX1_entryFor.data.toList.drop 47 = dktX1_entryFor_2 := dk_seg dksX1_entryFor_1 24 rfl rfl
theorem dksX1_entryFor_3 : cX1_entryFor.data.toList.drop 71 = dktX1_entryFor_3 := dk_seg dksX1_entryFor_2 24 rfl rfl
theorem dksX1_entryFor_4 : cX1_entryFor.data.toList.drop 95 = dktX1_entryFor_4 := dk_seg dksX1_entryFor_3 24 rfl rfl
theorem dksX1_entryFor_5 : cX1_entryFor.data.toList.drop 118 = dktX1_entryFor_5 := dk_seg dksX1_entryFor_4 23 rfl rfl
theorem dX1_entryFor_0 : decode cX1_entryFor 0 = .ok (.aconst_null, 1) := dk_1 (dk_at dksX1_entryFor_0 0 rfl rfl)
theorem dX1_entryFor_1 : decode cX1_entryFor 1 = .ok (.astore_n 3, 1) := dk_78 (dk_at dksX1_entryFor_0 1 rfl rfl)
theorem dX1_entryFor_2 : decode cX1_entryFor 2 = .ok (.iconst 0, 1) := dk_3 (dk_at dksX1_entryFor_0 2 rfl rfl)
theorem dX1_entryFor_3 : decode cX1_entryFor 3 = .ok (.istore 4, 2) := dk_54 4 (dk_at dksX1_entryFor_0 3 rfl rfl)
theorem dX1_entryFor_5 : decode cX1_entryFor 5 = .ok (.iload 4, 2) := dk_21 4 (dk_at dksX1_entryFor_0 5 rfl rfl)
theorem dX1_entryFor_7 : decode cX1_entryFor 7 = .ok (.aload_n 0, 1) := dk_42 (dk_at dksX1_entryFor_0 7 rfl rfl)
theorem dX1_entryFor_8 : decode cX1_entryFor 8 = .ok (.getfield 59, 3) := dk_180 0 59 (dk_at dksX1_entryFor_0 8 rfl rfl)
theorem dX1_entryFor_11 : decode cX1_entryFor 11 = .ok (.invokevirtual 3, 3) := dk_182 0 3 (dk_at dksX1_entryFor_0 11 rfl rfl)
theorem dX1_entryFor_14 : decode cX1_entryFor 14 = .ok (.if_icmp .ge 115, 3) := dk_162 0 115 (dk_at dksX1_entryFor_0 14 rfl rfl)
theorem dX1_entryFor_17 : decode cX1_entryFor 17 = .ok (.aload_n 0, 1) := dk_42 (dk_at dksX1_entryFor_0 17 rfl rfl)
theorem dX1_entryFor_18 : decode cX1_entryFor 18 = .ok (.getfield 59, 3) := dk_180 0 59 (dk_at dksX1_entryFor_0 18 rfl rfl)
theorem dX1_entryFor_21 : decode cX1_entryFor 21 = .ok (.iload 4, 2) := dk_21 4 (dk_at dksX1_entryFor_0 21 rfl rfl)
theorem dX1_entryFor_23 : decode cX1_entryFor 23 = .ok (.invokevirtual 9, 3) := dk_182 0 9 (dk_at dksX1_entryFor_1 0 rfl rfl)
theorem dX1_entryFor_26 : decode cX1_entryFor 26 = .ok (.checkcast 131, 3) := dk_192 0 131 (dk_at dksX1_entryFor_1 3 rfl rfl)
theorem dX1_entryFor_29 : decode cX1_entryFor 29 = .ok (.astore 5, 2) := dk_58 5 (dk_at dksX1_entryFor_1 6 rfl rfl)
theorem dX1_entryFor_31 : decode cX1_entryFor 31 = .ok (.aload 5, 2) := dk_25 5 (dk_at dksX1_entryFor_1 8 rfl rfl)
theorem dX1_entryFor_33 : decode cX1_entryFor 33 = .ok (.getfield 136, 3) := dk_180 0 136 (dk_at dksX1_entryFor_1 10 rfl rfl)
theorem dX1_entryFor_36 : decode cX1_entryFor 36 = .ok (.aload_n 1, 1) := dk_43 (dk_at dksX1_entryFor_1 13 rfl rfl)
theorem dX1_entryFor_37 : decode cX1_entryFor 37 = .ok (.getfield 341, 3) := dk_180 1 85 (dk_at dksX1_entryFor_1 14 rfl rfl)
theorem dX1_entryFor_40 : decode cX1_entryFor 40 = .ok (.if_acmp .ne 21, 3) := dk_166 0 21 (dk_at dksX1_entryFor_1 17 rfl rfl)
theorem dX1_entryFor_43 : decode cX1_entryFor 43 = .ok (.aload_n 0, 1) := dk_42 (dk_at dksX1_entryFor_1 20 rfl rfl)
theorem dX1_entryFor_44 : decode cX1_entryFor 44 = .ok (.getfield 116, 3) := dk_180 0 116 (dk_at dksX1_entryFor_1 21 rfl rfl)
theorem dX1_entryFor_47 : decode cX1_entryFor 47 = .ok (.aload 5, 2) := dk_25 5 (dk_at dksX1_entryFor_2 0 rfl rfl)
theorem dX1_entryFor_49 : decode cX1_entryFor 49 = .ok (.getfield 133, 3) := dk_180 0 133 (dk_at dksX1_entryFor_2 2 rfl rfl)
theorem dX1_entryFor_52 : decode cX1_entryFor 52 = .ok (.isub, 1) := dk_100 (dk_at dksX1_entryFor_2 5 rfl rfl)
theorem dX1_entryFor_53 : decode cX1_entryFor 53 = .ok (.iload_n 2, 1) := dk_28 (dk_at dksX1_entryFor_2 6 rfl rfl)
theorem dX1_entryFor_54 : decode cX1_entryFor 54 = .ok (.if_icmp .gt 7, 3) := dk_163 0 7 (dk_at dksX1_entryFor_2 7 rfl rfl)
theorem dX1_entryFor_57 : decode cX1_entryFor 57 = .ok (.iconst 1, 1) := dk_4 (dk_at dksX1_entryFor_2 10 rfl rfl)
theorem dX1_entryFor_58 : decode cX1_entryFor 58 = .ok (.goto 4, 3) := dk_167 0 4 (dk_at dksX1_entryFor_2 11 rfl rfl)
theorem dX1_entryFor_61 : decode cX1_entryFor 61 = .ok (.iconst 0, 1) := dk_3 (dk_at dksX1_entryFor_2 14 rfl rfl)
theorem dX1_entryFor_62 : decode cX1_entryFor 62 = .ok (.istore 6, 2) := dk_54 6 (dk_at dksX1_entryFor_2 15 rfl rfl)
theorem dX1_entryFor_64 : decode cX1_entryFor 64 = .ok (.iconst 0, 1) := dk_3 (dk_at dksX1_entryFor_2 17 rfl rfl)
theorem dX1_entryFor_65 : decode cX1_entryFor 65 = .ok (.istore 7, 2) := dk_54 7 (dk_at dksX1_entryFor_2 18 rfl rfl)
theorem dX1_entryFor_67 : decode cX1_entryFor 67 = .ok (.iload 7, 2) := dk_21 7 (dk_at dksX1_entryFor_2 20 rfl rfl)
theorem dX1_entryFor_69 : decode cX1_entryFor 69 = .ok (.aload 5, 2) := dk_25 5 (dk_at dksX1_entryFor_2 22 rfl rfl)
theorem dX1_entryFor_71 : decode cX1_entryFor 71 = .ok (.getfield 382, 3) := dk_180 1 126 (dk_at dksX1_entryFor_3 0 rfl rfl)
theorem dX1_entryFor_74 : decode cX1_entryFor 74 = .ok (.invokevirtual 3, 3) := dk_182 0 3 (dk_at dksX1_entryFor_3 3 rfl rfl)
theorem dX1_entryFor_77 : decode cX1_entryFor 77 = .ok (.if_icmp .ge 34, 3) := dk_162 0 34 (dk_at dksX1_entryFor_3 6 rfl rfl)
theorem dX1_entryFor_80 : decode cX1_entryFor 80 = .ok (.iload 6, 2) := dk_21 6 (dk_at dksX1_entryFor_3 9 rfl rfl)
theorem dX1_entryFor_82 : decode cX1_entryFor 82 = .ok (.aload 5, 2) := dk_25 5 (dk_at dksX1_entryFor_3 11 rfl rfl)
theorem dX1_entryFor_84 : decode cX1_entryFor 84 = .ok (.getfield 382, 3) := dk_180 1 126 (dk_at dksX1_entryFor_3 13 rfl rfl)
theorem dX1_entryFor_87 : decode cX1_entryFor 87 = .ok (.iload 7, 2) := dk_21 7 (dk_at dksX1_entryFor_3 16 rfl rfl)
theorem dX1_entryFor_89 : decode cX1_entryFor 89 = .ok (.invokevirtual 9, 3) := dk_182 0 9 (dk_at dksX1_entryFor_3 18 rfl rfl)
theorem dX1_entryFor_92 : decode cX1_entryFor 92 = .ok (.checkcast 13, 3) := dk_192 0 13 (dk_at dksX1_entryFor_3 21 rfl rfl)
theorem dX1_entryFor_95 : decode cX1_entryFor 95 = .ok (.aload_n 1, 1) := dk_43 (dk_at dksX1_entryFor_4 0 rfl rfl)
theorem dX1_entryFor_96 : decode cX1_entryFor 96 = .ok (.getfield 350, 3) := dk_180 1 94 (dk_at dksX1_entryFor_4 1 rfl rfl)
theorem dX1_entryFor_99 : decode cX1_entryFor 99 = .ok (.invokestatic 383, 3) := dk_184 1 127 (dk_at dksX1_entryFor_4 4 rfl rfl)
theorem dX1_entryFor_102 : decode cX1_entryFor 102 = .ok (.iand, 1) := dk_126 (dk_at dksX1_entryFor_4 7 rfl rfl)
theorem dX1_entryFor_103 : decode cX1_entryFor 103 = .ok (.istore 6, 2) := dk_54 6 (dk_at dksX1_entryFor_4 8 rfl rfl)
theorem dX1_entryFor_105 : decode cX1_entryFor 105 = .ok (.iinc 7 1, 3) := dk_132 7 1 (dk_at dksX1_entryFor_4 10 rfl rfl)
theorem dX1_entryFor_108 : decode cX1_entryFor 108 = .ok (.goto (-41), 3) := dk_167 255 215 (dk_at dksX1_entryFor_4 13 rfl rfl)
theorem dX1_entryFor_111 : decode cX1_entryFor 111 = .ok (.iload 6, 2) := dk_21 6 (dk_at dksX1_entryFor_4 16 rfl rfl)
theorem dX1_entryFor_113 : decode cX1_entryFor 113 = .ok (.ifCond .eq 8, 3) := dk_153 0 8 (dk_at dksX1_entryFor_4 18 rfl rfl)
theorem dX1_entryFor_116 : decode cX1_entryFor 116 = .ok (.aload 5, 2) := dk_25 5 (dk_at dksX1_entryFor_4 21 rfl rfl)
theorem dX1_entryFor_118 : decode cX1_entryFor 118 = .ok (.goto 4, 3) := dk_167 0 4 (dk_at dksX1_entryFor_5 0 rfl rfl)
theorem dX1_entryFor_121 : decode cX1_entryFor 121 = .ok (.aload_n 3, 1) := dk_45 (dk_at dksX1_entryFor_5 3 rfl rfl)
theorem dX1_entryFor_122 : decode cX1_entryFor 122 = .ok (.astore_n 3, 1) := dk_78 (dk_at dksX1_entryFor_5 4 rfl rfl)
theorem dX1_entryFor_123 : decode cX1_entryFor 123 = .ok (.iinc 4 1, 3) := dk_132 4 1 (dk_at dksX1_entryFor_5 5 rfl rfl)
theorem dX1_entryFor_126 : decode cX1_entryFor 126 = .ok (.goto (-121), 3) := dk_167 255 135 (dk_at dksX1_entryFor_5 8 rfl rfl)
theorem dX1_entryFor_129 : decode cX1_entryFor 129 = .ok (.aload_n 3, 1) := dk_45 (dk_at dksX1_entryFor_5 11 rfl rfl)
theorem dX1_entryFor_130 : decode cX1_entryFor 130 = .ok (.areturn, 1) := dk_176 (dk_at dksX1_entryFor_5 12 rfl rfl)
abbrev cX1_follows : ByteArray := prog_1_method_43_code
def yX1_follows : MethodName := ⟨RX1, "follows", "(LQueryHarbor$Condition;Ljava/util/ArrayList;)Z"⟩
def dkwX1_follows_1 : List UInt8 := [182, 1, 131, 128, 61, 132, 3, 1, 167, 255, 230, 28, 172]
abbrev dktX1_follows_1 : List UInt8 := dkwX1_follows_1 ++ []
def dkwX1_follows_0 : List UInt8 := [3, 61, 3, 62, 29, 43, 182, 0, 3, 162, 0, 24, 28, 42, 43, 29, 182, 0, 9, 192, 0, 13]
abbrev dktX1_follows_0 : List UInt8 := dkwX1_follows_0 ++ dktX1_follows_1
theorem dksX1_follows_0 : cX1_follows.data.toList.drop 0 = dktX1_follows_0 := by decide +kernel
theorem dksX1_follows_1 : cX1_follows.data.toList.drop 22 = dktX1_follows_1 := dk_seg dksX1_follows_0 22 rfl rfl
theorem dX1_follows_0 : decode cX1_follows 0 = .ok (.iconst 0, 1) := dk_3 (dk_at dksX1_follows_0 0 rfl rfl)
theorem dX1_follows_1 : decode cX1_follows 1 = .ok (.istore_n 2, 1) := dk_61 (dk_at dksX1_follows_0 1 rfl rfl)
theorem dX1_follows_2 : decode cX1_follows 2 = .ok (.iconst 0, 1) := dk_3 (dk_at dksX1_follows_0 2 rfl rfl)
theorem dX1_follows_3 : decode cX1_follows 3 = .ok (.istore_n 3, 1) := dk_62 (dk_at dksX1_follows_0 3 rfl rfl)
theorem dX1_follows_4 : decode cX1_follows 4 = .ok (.iload_n 3, 1) := dk_29 (dk_at dksX1_follows_0 4 rfl rfl)
theorem dX1_follows_5 : decode cX1_follows 5 = .ok (.aload_n 1, 1) := dk_43 (dk_at dksX1_follows_0 5 rfl rfl)
theorem dX1_follows_6 : decode cX1_follows 6 = .ok (.invokevirtual 3, 3) := dk_182 0 3 (dk_at dksX1_follows_0 6 rfl rfl)
theorem dX1_follows_9 : decode cX1_follows 9 = .ok (.if_icmp .ge 24, 3) := dk_162 0 24 (dk_at dksX1_follows_0 9 rfl rfl)
theorem dX1_follows_12 : decode cX1_follows 12 = .ok (.iload_n 2, 1) := dk_28 (dk_at dksX1_follows_0 12 rfl rfl)
theorem dX1_follows_13 : decode cX1_follows 13 = .ok (.aload_n 0, 1) := dk_42 (dk_at dksX1_follows_0 13 rfl rfl)
theorem dX1_follows_14 : decode cX1_follows 14 = .ok (.aload_n 1, 1) := dk_43 (dk_at dksX1_follows_0 14 rfl rfl)
theorem dX1_follows_15 : decode cX1_follows 15 = .ok (.iload_n 3, 1) := dk_29 (dk_at dksX1_follows_0 15 rfl rfl)
theorem dX1_follows_16 : decode cX1_follows 16 = .ok (.invokevirtual 9, 3) := dk_182 0 9 (dk_at dksX1_follows_0 16 rfl rfl)
theorem dX1_follows_19 : decode cX1_follows 19 = .ok (.checkcast 13, 3) := dk_192 0 13 (dk_at dksX1_follows_0 19 rfl rfl)
theorem dX1_follows_22 : decode cX1_follows 22 = .ok (.invokevirtual 387, 3) := dk_182 1 131 (dk_at dksX1_follows_1 0 rfl rfl)
theorem dX1_follows_25 : decode cX1_follows 25 = .ok (.ior, 1) := dk_128 (dk_at dksX1_follows_1 3 rfl rfl)
theorem dX1_follows_26 : decode cX1_follows 26 = .ok (.istore_n 2, 1) := dk_61 (dk_at dksX1_follows_1 4 rfl rfl)
theorem dX1_follows_27 : decode cX1_follows 27 = .ok (.iinc 3 1, 3) := dk_132 3 1 (dk_at dksX1_follows_1 5 rfl rfl)
theorem dX1_follows_30 : decode cX1_follows 30 = .ok (.goto (-26), 3) := dk_167 255 230 (dk_at dksX1_follows_1 8 rfl rfl)
theorem dX1_follows_33 : decode cX1_follows 33 = .ok (.iload_n 2, 1) := dk_28 (dk_at dksX1_follows_1 11 rfl rfl)
theorem dX1_follows_34 : decode cX1_follows 34 = .ok (.ireturn, 1) := dk_172 (dk_at dksX1_follows_1 12 rfl rfl)
abbrev cX1_bind : ByteArray := prog_1_method_48_code
def yX1_bind : MethodName := ⟨RX1, "bind", "(LQueryHarbor$Seat;LQueryHarbor$Seat;LQueryHarbor$Link;II)Z"⟩
def dkwX1_bind_10 : List UInt8 := [172]
abbrev dktX1_bind_10 : List UInt8 := dkwX1_bind_10 ++ []
def dkwX1_bind_9 : List UInt8 := [132, 11, 1, 167, 255, 190, 167, 0, 10, 58, 11, 43, 4, 181, 1, 101, 43, 180, 1, 104, 184, 1, 195, 4]
abbrev dktX1_bind_9 : List UInt8 := dkwX1_bind_9 ++ dktX1_bind_10
def dkwX1_bind_8 : List UInt8 := [21, 9, 4, 100, 162, 0, 19, 43, 180, 1, 91, 21, 10, 161, 0, 10, 43, 5, 181, 1, 156, 3, 172]
abbrev dktX1_bind_8 : List UInt8 := dkwX1_bind_8 ++ dktX1_bind_9
def dkwX1_bind_7 : List UInt8 := [25, 8, 182, 0, 3, 21, 11, 4, 96, 7, 104, 184, 1, 190, 21, 4, 21, 5, 182, 1, 114, 21, 11]
abbrev dktX1_bind_7 : List UInt8 := dkwX1_bind_7 ++ dktX1_bind_8
def dkwX1_bind_6 : List UInt8 := [181, 1, 111, 3, 54, 11, 21, 11, 21, 9, 162, 0, 65, 42, 43, 21, 7, 25, 8, 21, 11, 7, 104]
abbrev dktX1_bind_6 : List UInt8 := dkwX1_bind_6 ++ dktX1_bind_7
def dkwX1_bind_5 : List UInt8 := [185, 1, 108, 1, 0, 104, 96, 21, 10, 161, 0, 5, 3, 172, 43, 4, 181, 1, 156, 43, 42, 180, 0, 155]
abbrev dktX1_bind_5 : List UInt8 := dkwX1_bind_5 ++ dktX1_bind_6
def dkwX1_bind_4 : List UInt8 := [182, 1, 187, 54, 10, 21, 9, 25, 6, 185, 1, 71, 1, 0, 104, 25, 8, 182, 0, 3, 25, 6]
abbrev dktX1_bind_4 : List UInt8 := dkwX1_bind_4 ++ dktX1_bind_5
def dkwX1_bind_3 : List UInt8 := [182, 1, 177, 184, 1, 183, 58, 8, 25, 8, 182, 0, 3, 7, 96, 4, 100, 7, 108, 54, 9, 43]
abbrev dktX1_bind_3 : List UInt8 := dkwX1_bind_3 ++ dktX1_bind_4
def dkwX1_bind_2 : List UInt8 := [180, 1, 85, 180, 0, 147, 5, 108, 51, 153, 0, 5, 3, 172, 44, 180, 1, 104, 45, 44, 180, 1, 138]
abbrev dktX1_bind_2 : List UInt8 := dkwX1_bind_2 ++ dktX1_bind_3
def dkwX1_bind_1 : List UInt8 := [3, 21, 7, 185, 1, 180, 3, 0, 153, 0, 28, 42, 180, 0, 51, 44, 180, 1, 85, 180, 0, 147, 50, 43]
abbrev dktX1_bind_1 : List UInt8 := dkwX1_bind_1 ++ dktX1_bind_2
def dkwX1_bind_0 : List UInt8 := [43, 180, 1, 85, 180, 0, 140, 180, 0, 183, 58, 6, 45, 43, 180, 1, 138, 182, 1, 177, 54, 7, 25, 6]
abbrev dktX1_bind_0 : List UInt8 := dkwX1_bind_0 ++ dktX1_bind_1
theorem dksX1_bind_0 : cX1_bind.data.toList.drop 0 = dktX1_bind_0 := by decide +kernel
theorem dksX1_bind_1 : cX1_bind.data.toList.drop 24 = dktX1_bind_1 := dk_seg dksX1_bind_0 24 rfl rfl
theorem dksX1_bind_2 : cX1_bind.data.toList.drop 48 = dktX1_bind_2 := dk_seg dksX1_bind_1 24 rfl rfl
theorem dksX1_bind_3 : cX1_bind.data.toList.drop 71 = dktX1_bind_3 := dk_seg dksX1_bind_2 23 rfl rfl
theorem dksX1_bind_4 : cX1_bind.data.toList.drop 93 = dktX1_bind_4 := dk_seg dksX1_bind_3 22 rfl rfl
theorem dksX1_bind_5 : cX1_bind.data.toList.drop 115 = dktX1_bind_5 := dk_seg dksX1_bind_4 22 rfl rfl
theorem dksX1_bind_6 : cX1_bind.data.toList.drop 139 = dktX1_bind_6 := dk_seg dksX1_bind_5 24 rfl rfl
theorem dksX1_bind_7 : cX1_bind.data.toList.drop 162 = dktX1_bind_7 := dk_seg dksX1_bind_6 23 rfl rfl
theorem dksX1_bind_8 : cX1_bind.data.toList.drop 185 = dktX1_bind_8 := dk_seg dksX1_bind_7 23 rfl rfl
theorem dksX1_bind_9 : cX1_bind.data.toList.drop 208 = dktX1_bind_9 := dk_seg dksX1_bind_8 23 rfl rfl
theorem dksX1_bind_10 : cX1_bind.data.toList.drop 232 = dktX1_bind_10 := dk_seg dksX1_bind_9 24 rfl rfl
theorem dX1_bind_0 : decode cX1_bind 0 = .ok (.aload_n 1, 1) := dk_43 (dk_at dksX1_bind_0 0 rfl rfl)
theorem dX1_bind_1 : decode cX1_bind 1 = .ok (.getfield 341, 3) := dk_180 1 85 (dk_at dksX1_bind_0 1 rfl rfl)
theorem dX1_bind_4 : decode cX1_bind 4 = .ok (.getfield 140, 3) := dk_180 0 140 (dk_at dksX1_bind_0 4 rfl rfl)
theorem dX1_bind_7 : decode cX1_bind 7 = .ok (.getfield 183, 3) := dk_180 0 183 (dk_at dksX1_bind_0 7 rfl rfl)
theorem dX1_bind_10 : decode cX1_bind 10 = .ok (.astore 6, 2) := dk_58 6 (dk_at dksX1_bind_0 10 rfl rfl)
theorem dX1_bind_12 : decode cX1_bind 12 = .ok (.aload_n 3, 1) := dk_45 (dk_at dksX1_bind_0 12 rfl rfl)
theorem dX1_bind_13 : decode cX1_bind 13 = .ok (.aload_n 1, 1) := dk_43 (dk_at dksX1_bind_0 13 rfl rfl)
theorem dX1_bind_14 : decode cX1_bind 14 = .ok (.getfield 394, 3) := dk_180 1 138 (dk_at dksX1_bind_0 14 rfl rfl)
theorem dX1_bind_17 : decode cX1_bind 17 = .ok (.invokevirtual 433, 3) := dk_182 1 177 (dk_at dksX1_bind_0 17 rfl rfl)
theorem dX1_bind_20 : decode cX1_bind 20 = .ok (.istore 7, 2) := dk_54 7 (dk_at dksX1_bind_0 20 rfl rfl)
theorem dX1_bind_22 : decode cX1_bind 22 = .ok (.aload 6, 2) := dk_25 6 (dk_at dksX1_bind_0 22 rfl rfl)
theorem dX1_bind_24 : decode cX1_bind 24 = .ok (.iconst 0, 1) := dk_3 (dk_at dksX1_bind_1 0 rfl rfl)
theorem dX1_bind_25 : decode cX1_bind 25 = .ok (.iload 7, 2) := dk_21 7 (dk_at dksX1_bind_1 1 rfl rfl)
theorem dX1_bind_27 : decode cX1_bind 27 = .ok (.invokeinterface 436 3, 5) := by decide +kernel
theorem dX1_bind_32 : decode cX1_bind 32 = .ok (.ifCond .eq 28, 3) := dk_153 0 28 (dk_at dksX1_bind_1 8 rfl rfl)
theorem dX1_bind_35 : decode cX1_bind 35 = .ok (.aload_n 0, 1) := dk_42 (dk_at dksX1_bind_1 11 rfl rfl)
theorem dX1_bind_36 : decode cX1_bind 36 = .ok (.getfield 51, 3) := dk_180 0 51 (dk_at dksX1_bind_1 12 rfl rfl)
theorem dX1_bind_39 : decode cX1_bind 39 = .ok (.aload_n 2, 1) := dk_44 (dk_at dksX1_bind_1 15 rfl rfl)
theorem dX1_bind_40 : decode cX1_bind 40 = .ok (.getfield 341, 3) := dk_180 1 85 (dk_at dksX1_bind_1 16 rfl rfl)
theorem dX1_bind_43 : decode cX1_bind 43 = .ok (.getfield 147, 3) := dk_180 0 147 (dk_at dksX1_bind_1 19 rfl rfl)
theorem dX1_bind_46 : decode cX1_bind 46 = .ok (.aaload, 1) := dk_50 (dk_at dksX1_bind_1 22 rfl rfl)
theorem dX1_bind_47 : decode cX1_bind 47 = .ok (.aload_n 1, 1) := dk_43 (dk_at dksX1_bind_1 23 rfl rfl)
theorem dX1_bind_48 : decode cX1_bind 48 = .ok (.getfield 341, 3) := dk_180 1 85 (dk_at dksX1_bind_2 0 rfl rfl)
theorem dX1_bind_51 : decode cX1_bind 51 = .ok (.getfield 147, 3) := dk_180 0 147 (dk_at dksX1_bind_2 3 rfl rfl)
theorem dX1_bind_54 : decode cX1_bind 54 = .ok (.iconst 2, 1) := dk_5 (dk_at dksX1_bind_2 6 rfl rfl)
theorem dX1_bind_55 : decode cX1_bind 55 = .ok (.idiv, 1) := dk_108 (dk_at dksX1_bind_2 7 rfl rfl)
theorem dX1_bind_56 : decode cX1_bind 56 = .ok (.baload, 1) := dk_51 (dk_at dksX1_bind_2 8 rfl rfl)
theorem dX1_bind_57 : decode cX1_bind 57 = .ok (.ifCond .eq 5, 3) := dk_153 0 5 (dk_at dksX1_bind_2 9 rfl rfl)
theorem dX1_bind_60 : decode cX1_bind 60 = .ok (.iconst 0, 1) := dk_3 (dk_at dksX1_bind_2 12 rfl rfl)
theorem dX1_bind_61 : decode cX1_bind 61 = .ok (.ireturn, 1) := dk_172 (dk_at dksX1_bind_2 13 rfl rfl)
theorem dX1_bind_62 : decode cX1_bind 62 = .ok (.aload_n 2, 1) := dk_44 (dk_at dksX1_bind_2 14 rfl rfl)
theorem dX1_bind_63 : decode cX1_bind 63 = .ok (.getfield 360, 3) := dk_180 1 104 (dk_at dksX1_bind_2 15 rfl rfl)
theorem dX1_bind_66 : decode cX1_bind 66 = .ok (.aload_n 3, 1) := dk_45 (dk_at dksX1_bind_2 18 rfl rfl)
theorem dX1_bind_67 : decode cX1_bind 67 = .ok (.aload_n 2, 1) := dk_44 (dk_at dksX1_bind_2 19 rfl rfl)
theorem dX1_bind_68 : decode cX1_bind 68 = .ok (.getfield 394, 3) := dk_180 1 138 (dk_at dksX1_bind_2 20 rfl rfl)
theorem dX1_bind_71 : decode cX1_bind 71 = .ok (.invokevirtual 433, 3) := dk_182 1 177 (dk_at dksX1_bind_3 0 rfl rfl)
theorem dX1_bind_74 : decode cX1_bind 74 = .ok (.invokestatic 439, 3) := dk_184 1 183 (dk_at dksX1_bind_3 3 rfl rfl)
theorem dX1_bind_77 : decode cX1_bind 77 = .ok (.astore 8, 2) := dk_58 8 (dk_at dksX1_bind_3 6 rfl rfl)
theorem dX1_bind_79 : decode cX1_bind 79 = .ok (.aload 8, 2) := dk_25 8 (dk_at dksX1_bind_3 8 rfl rfl)
theorem dX1_bind_81 : decode cX1_bind 81 = .ok (.invokevirtual 3, 3) := dk_182 0 3 (dk_at dksX1_bind_3 10 rfl rfl)
theorem dX1_bind_84 : decode cX1_bind 84 = .ok (.iconst 4, 1) := dk_7 (dk_at dksX1_bind_3 13 rfl rfl)
theorem dX1_bind_85 : decode cX1_bind 85 = .ok (.iadd, 1) := dk_96 (dk_at dksX1_bind_3 14 rfl rfl)
theorem dX1_bind_86 : decode cX1_bind 86 = .ok (.iconst 1, 1) := dk_4 (dk_at dksX1_bind_3 15 rfl rfl)
theorem dX1_bind_87 : decode cX1_bind 87 = .ok (.isub, 1) := dk_100 (dk_at dksX1_bind_3 16 rfl rfl)
theorem dX1_bind_88 : decode cX1_bind 88 = .ok (.iconst 4, 1) := dk_7 (dk_at dksX1_bind_3 17 rfl rfl)
theorem dX1_bind_89 : decode cX1_bind 89 = .ok (.idiv, 1) := dk_108 (dk_at dksX1_bind_3 18 rfl rfl)
theorem dX1_bind_90 : decode cX1_bind 90 = .ok (.istore 9, 2) := dk_54 9 (dk_at dksX1_bind_3 19 rfl rfl)
theorem dX1_bind_92 : decode cX1_bind 92 = .ok (.aload_n 1, 1) := dk_43 (dk_at dksX1_bind_3 21 rfl rfl)
theorem dX1_bind_93 : decode cX1_bind 93 = .ok (.invokevirtual 443, 3) := dk_182 1 187 (dk_at dksX1_bind_4 0 rfl rfl)
theorem dX1_bind_96 : decode cX1_bind 96 = .ok (.istore 10, 2) := dk_54 10 (dk_at dksX1_bind_4 3 rfl rfl)
theorem dX1_bind_98 : decode cX1_bind 98 = .ok (.iload 9, 2) := dk_21 9 (dk_at dksX1_bind_4 5 rfl rfl)
theorem dX1_bind_100 : decode cX1_bind 100 = .ok (.aload 6, 2) := dk_25 6 (dk_at dksX1_bind_4 7 rfl rfl)
theorem dX1_bind_102 : decode cX1_bind 102 = .ok (.invokeinterface 327 1, 5) := by decide +kernel
theorem dX1_bind_107 : decode cX1_bind 107 = .ok (.imul, 1) := dk_104 (dk_at dksX1_bind_4 14 rfl rfl)
theorem dX1_bind_108 : decode cX1_bind 108 = .ok (.aload 8, 2) := dk_25 8 (dk_at dksX1_bind_4 15 rfl rfl)
theorem dX1_bind_110 : decode cX1_bind 110 = .ok (.invokevirtual 3, 3) := dk_182 0 3 (dk_at dksX1_bind_4 17 rfl rfl)
theorem dX1_bind_113 : decode cX1_bind 113 = .ok (.aload 6, 2) := dk_25 6 (dk_at dksX1_bind_4 20 rfl rfl)
theorem dX1_bind_115 : decode cX1_bind 115 = .ok (.invokeinterface 364 1, 5) := by decide +kernel
theorem dX1_bind_120 : decode cX1_bind 120 = .ok (.imul, 1) := dk_104 (dk_at dksX1_bind_5 5 rfl rfl)
theorem dX1_bind_121 : decode cX1_bind 121 = .ok (.iadd, 1) := dk_96 (dk_at dksX1_bind_5 6 rfl rfl)
theorem dX1_bind_122 : decode cX1_bind 122 = .ok (.iload 10, 2) := dk_21 10 (dk_at dksX1_bind_5 7 rfl rfl)
theorem dX1_bind_124 : decode cX1_bind 124 = .ok (.if_icmp .lt 5, 3) := dk_161 0 5 (dk_at dksX1_bind_5 9 rfl rfl)
theorem dX1_bind_127 : decode cX1_bind 127 = .ok (.iconst 0, 1) := dk_3 (dk_at dksX1_bind_5 12 rfl rfl)
theorem dX1_bind_128 : decode cX1_bind 128 = .ok (.ireturn, 1) := dk_172 (dk_at dksX1_bind_5 13 rfl rfl)
theorem dX1_bind_129 : decode cX1_bind 129 = .ok (.aload_n 1, 1) := dk_43 (dk_at dksX1_bind_5 14 rfl rfl)
theorem dX1_bind_130 : decode cX1_bind 130 = .ok (.iconst 1, 1) := dk_4 (dk_at dksX1_bind_5 15 rfl rfl)
theorem dX1_bind_131 : decode cX1_bind 131 = .ok (.putfield 412, 3) := dk_181 1 156 (dk_at dksX1_bind_5 16 rfl rfl)
theorem dX1_bind_134 : decode cX1_bind 134 = .ok (.aload_n 1, 1) := dk_43 (dk_at dksX1_bind_5 19 rfl rfl)
theorem dX1_bind_135 : decode cX1_bind 135 = .ok (.aload_n 0, 1) := dk_42 (dk_at dksX1_bind_5 20 rfl rfl)
theorem dX1_bind_136 : decode cX1_bind 136 = .ok (.getfield 155, 3) := dk_180 0 155 (dk_at dksX1_bind_5 21 rfl rfl)
theorem dX1_bind_139 : decode cX1_bind 139 = .ok (.putfield 367, 3) := dk_181 1 111 (dk_at dksX1_bind_6 0 rfl rfl)
theorem dX1_bind_142 : decode cX1_bind 142 = .ok (.iconst 0, 1) := dk_3 (dk_at dksX1_bind_6 3 rfl rfl)
theorem dX1_bind_143 : decode cX1_bind 143 = .ok (.istore 11, 2) := dk_54 11 (dk_at dksX1_bind_6 4 rfl rfl)
theorem dX1_bind_145 : decode cX1_bind 145 = .ok (.iload 11, 2) := dk_21 11 (dk_at dksX1_bind_6 6 rfl rfl)
theorem dX1_bind_147 : decode cX1_bind 147 = .ok (.iload 9, 2) := dk_21 9 (dk_at dksX1_bind_6 8 rfl rfl)
theorem dX1_bind_149 : decode cX1_bind 149 = .ok (.if_icmp .ge 65, 3) := dk_162 0 65 (dk_at dksX1_bind_6 10 rfl rfl)
theorem dX1_bind_152 : decode cX1_bind 152 = .ok (.aload_n 0, 1) := dk_42 (dk_at dksX1_bind_6 13 rfl rfl)
theorem dX1_bind_153 : decode cX1_bind 153 = .ok (.aload_n 1, 1) := dk_43 (dk_at dksX1_bind_6 14 rfl rfl)
theorem dX1_bind_154 : decode cX1_bind 154 = .ok (.iload 7, 2) := dk_21 7 (dk_at dksX1_bind_6 15 rfl rfl)
theorem dX1_bind_156 : decode cX1_bind 156 = .ok (.aload 8, 2) := dk_25 8 (dk_at dksX1_bind_6 17 rfl rfl)
theorem dX1_bind_158 : decode cX1_bind 158 = .ok (.iload 11, 2) := dk_21 11 (dk_at dksX1_bind_6 19 rfl rfl)
theorem dX1_bind_160 : decode cX1_bind 160 = .ok (.iconst 4, 1) := dk_7 (dk_at dksX1_bind_6 21 rfl rfl)
theorem dX1_bind_161 : decode cX1_bind 161 = .ok (.imul, 1) := dk_104 (dk_at dksX1_bind_6 22 rfl rfl)
theorem dX1_bind_162 : decode cX1_bind 162 = .ok (.aload 8, 2) := dk_25 8 (dk_at dksX1_bind_7 0 rfl rfl)
theorem dX1_bind_164 : decode cX1_bind 164 = .ok (.invokevirtual 3, 3) := dk_182 0 3 (dk_at dksX1_bind_7 2 rfl rfl)
theorem dX1_bind_167 : decode cX1_bind 167 = .ok (.iload 11, 2) := dk_21 11 (dk_at dksX1_bind_7 5 rfl rfl)
theorem dX1_bind_169 : decode cX1_bind 169 = .ok (.iconst 1, 1) := dk_4 (dk_at dksX1_bind_7 7 rfl rfl)
theorem dX1_bind_170 : decode cX1_bind 170 = .ok (.iadd, 1) := dk_96 (dk_at dksX1_bind_7 8 rfl rfl)
theorem dX1_bind_171 : decode cX1_bind 171 = .ok (.iconst 4, 1) := dk_7 (dk_at dksX1_bind_7 9 rfl rfl)
theorem dX1_bind_172 : decode cX1_bind 172 = .ok (.imul, 1) := dk_104 (dk_at dksX1_bind_7 10 rfl rfl)
theorem dX1_bind_173 : decode cX1_bind 173 = .ok (.invokestatic 446, 3) := dk_184 1 190 (dk_at dksX1_bind_7 11 rfl rfl)
theorem dX1_bind_176 : decode cX1_bind 176 = .ok (.iload 4, 2) := dk_21 4 (dk_at dksX1_bind_7 14 rfl rfl)
theorem dX1_bind_178 : decode cX1_bind 178 = .ok (.iload 5, 2) := dk_21 5 (dk_at dksX1_bind_7 16 rfl rfl)
theorem dX1_bind_180 : decode cX1_bind 180 = .ok (.invokevirtual 370, 3) := dk_182 1 114 (dk_at dksX1_bind_7 18 rfl rfl)
theorem dX1_bind_183 : decode cX1_bind 183 = .ok (.iload 11, 2) := dk_21 11 (dk_at dksX1_bind_7 21 rfl rfl)
theorem dX1_bind_185 : decode cX1_bind 185 = .ok (.iload 9, 2) := dk_21 9 (dk_at dksX1_bind_8 0 rfl rfl)
theorem dX1_bind_187 : decode cX1_bind 187 = .ok (.iconst 1, 1) := dk_4 (dk_at dksX1_bind_8 2 rfl rfl)
theorem dX1_bind_188 : decode cX1_bind 188 = .ok (.isub, 1) := dk_100 (dk_at dksX1_bind_8 3 rfl rfl)
theorem dX1_bind_189 : decode cX1_bind 189 = .ok (.if_icmp .ge 19, 3) := dk_162 0 19 (dk_at dksX1_bind_8 4 rfl rfl)
theorem dX1_bind_192 : decode cX1_bind 192 = .ok (.aload_n 1, 1) := dk_43 (dk_at dksX1_bind_8 7 rfl rfl)
theorem dX1_bind_193 : decode cX1_bind 193 = .ok (.getfield 347, 3) := dk_180 1 91 (dk_at dksX1_bind_8 8 rfl rfl)
theorem dX1_bind_196 : decode cX1_bind 196 = .ok (.iload 10, 2) := dk_21 10 (dk_at dksX1_bind_8 11 rfl rfl)
theorem dX1_bind_198 : decode cX1_bind 198 = .ok (.if_icmp .lt 10, 3) := dk_161 0 10 (dk_at dksX1_bind_8 13 rfl rfl)
theorem dX1_bind_201 : decode cX1_bind 201 = .ok (.aload_n 1, 1) := dk_43 (dk_at dksX1_bind_8 16 rfl rfl)
theorem dX1_bind_202 : decode cX1_bind 202 = .ok (.iconst 2, 1) := dk_5 (dk_at dksX1_bind_8 17 rfl rfl)
theorem dX1_bind_203 : decode cX1_bind 203 = .ok (.putfield 412, 3) := dk_181 1 156 (dk_at dksX1_bind_8 18 rfl rfl)
theorem dX1_bind_206 : decode cX1_bind 206 = .ok (.iconst 0, 1) := dk_3 (dk_at dksX1_bind_8 21 rfl rfl)
theorem dX1_bind_207 : decode cX1_bind 207 = .ok (.ireturn, 1) := dk_172 (dk_at dksX1_bind_8 22 rfl rfl)
theorem dX1_bind_208 : decode cX1_bind 208 = .ok (.iinc 11 1, 3) := dk_132 11 1 (dk_at dksX1_bind_9 0 rfl rfl)
theorem dX1_bind_211 : decode cX1_bind 211 = .ok (.goto (-66), 3) := dk_167 255 190 (dk_at dksX1_bind_9 3 rfl rfl)
theorem dX1_bind_214 : decode cX1_bind 214 = .ok (.goto 10, 3) := dk_167 0 10 (dk_at dksX1_bind_9 6 rfl rfl)
theorem dX1_bind_217 : decode cX1_bind 217 = .ok (.astore 11, 2) := dk_58 11 (dk_at dksX1_bind_9 9 rfl rfl)
theorem dX1_bind_219 : decode cX1_bind 219 = .ok (.aload_n 1, 1) := dk_43 (dk_at dksX1_bind_9 11 rfl rfl)
theorem dX1_bind_220 : decode cX1_bind 220 = .ok (.iconst 1, 1) := dk_4 (dk_at dksX1_bind_9 12 rfl rfl)
theorem dX1_bind_221 : decode cX1_bind 221 = .ok (.putfield 357, 3) := dk_181 1 101 (dk_at dksX1_bind_9 13 rfl rfl)
theorem dX1_bind_224 : decode cX1_bind 224 = .ok (.aload_n 1, 1) := dk_43 (dk_at dksX1_bind_9 16 rfl rfl)
theorem dX1_bind_225 : decode cX1_bind 225 = .ok (.getfield 360, 3) := dk_180 1 104 (dk_at dksX1_bind_9 17 rfl rfl)
theorem dX1_bind_228 : decode cX1_bind 228 = .ok (.invokestatic 451, 3) := dk_184 1 195 (dk_at dksX1_bind_9 20 rfl rfl)
theorem dX1_bind_231 : decode cX1_bind 231 = .ok (.iconst 1, 1) := dk_4 (dk_at dksX1_bind_9 23 rfl rfl)
theorem dX1_bind_232 : decode cX1_bind 232 = .ok (.ireturn, 1) := dk_172 (dk_at dksX1_bind_10 0 rfl rfl)
abbrev cX1_keysOf : ByteArray := prog_1_method_46_code
def yX1_keysOf : MethodName := ⟨RX1, "keysOf", "(Ljava/util/ArrayList;I)Ljava/util/ArrayList;"⟩
def dkwX1_keysOf_5 : List UInt8 := [167, 255, 150, 44, 176]
abbrev dktX1_keysOf_5 : List UInt8 := dkwX1_keysOf_5 ++ []
def dkwX1_keysOf_4 : List UInt8 := [182, 1, 22, 21, 4, 159, 0, 14, 44, 21, 5, 21, 4, 184, 0, 159, 182, 1, 149, 132, 3, 1]
abbrev dktX1_keysOf_4 : List UInt8 := dkwX1_keysOf_4 ++ dktX1_keysOf_5
def dkwX1_keysOf_3 : List UInt8 := [184, 1, 37, 153, 0, 40, 21, 5, 44, 182, 0, 3, 159, 0, 20, 44, 21, 5, 182, 0, 9, 192, 0, 160]
abbrev dktX1_keysOf_3 : List UInt8 := dkwX1_keysOf_3 ++ dktX1_keysOf_4
def dkwX1_keysOf_2 : List UInt8 := [21, 5, 182, 0, 9, 192, 0, 160, 182, 1, 22, 21, 4, 162, 0, 9, 132, 5, 1, 167, 255, 227, 21, 4]
abbrev dktX1_keysOf_2 : List UInt8 := dkwX1_keysOf_2 ++ dktX1_keysOf_3
def dkwX1_keysOf_1 : List UInt8 := [192, 0, 216, 180, 0, 244, 27, 46, 54, 4, 3, 54, 5, 21, 5, 44, 182, 0, 3, 162, 0, 26, 44]
abbrev dktX1_keysOf_1 : List UInt8 := dkwX1_keysOf_1 ++ dktX1_keysOf_2
def dkwX1_keysOf_0 : List UInt8 := [187, 0, 4, 89, 183, 0, 54, 77, 3, 62, 29, 42, 182, 0, 3, 162, 0, 104, 42, 29, 182, 0, 9]
abbrev dktX1_keysOf_0 : List UInt8 := dkwX1_keysOf_0 ++ dktX1_keysOf_1
theorem dksX1_keysOf_0 : cX1_keysOf.data.toList.drop 0 = dktX1_keysOf_0 := by decide +kernel
theorem dksX1_keysOf_1 : cX1_keysOf.data.toList.drop 23 = dktX1_keysOf_1 := dk_seg dksX1_keysOf_0 23 rfl rfl
theorem dksX1_keysOf_2 : cX1_keysOf.data.toList.drop 46 = dktX1_keysOf_2 := dk_seg dksX1_keysOf_1 23 rfl rfl
theorem dksX1_keysOf_3 : cX1_keysOf.data.toList.drop 70 = dktX1_keysOf_3 := dk_seg dksX1_keysOf_2 24 rfl rfl
theorem dksX1_keysOf_4 : cX1_keysOf.data.toList.drop 94 = dktX1_keysOf_4 := dk_seg dksX1_keysOf_3 24 rfl rfl
theorem dksX1_keysOf_5 : cX1_keysOf.data.toList.drop 116 = dktX1_keysOf_5 := dk_seg dksX1_keysOf_4 22 rfl rfl
theorem dX1_keysOf_0 : decode cX1_keysOf 0 = .ok (.new 4, 3) := dk_187 0 4 (dk_at dksX1_keysOf_0 0 rfl rfl)
theorem dX1_keysOf_3 : decode cX1_keysOf 3 = .ok (.dup, 1) := dk_89 (dk_at dksX1_keysOf_0 3 rfl rfl)
theorem dX1_keysOf_4 : decode cX1_keysOf 4 = .ok (.invokespecial 54, 3) := dk_183 0 54 (dk_at dksX1_keysOf_0 4 rfl rfl)
theorem dX1_keysOf_7 : decode cX1_keysOf 7 = .ok (.astore_n 2, 1) := dk_77 (dk_at dksX1_keysOf_0 7 rfl rfl)
theorem dX1_keysOf_8 : decode cX1_keysOf 8 = .ok (.iconst 0, 1) := dk_3 (dk_at dksX1_keysOf_0 8 rfl rfl)
theorem dX1_keysOf_9 : decode cX1_keysOf 9 = .ok (.istore_n 3, 1) := dk_62 (dk_at dksX1_keysOf_0 9 rfl rfl)
theorem dX1_keysOf_10 : decode cX1_keysOf 10 = .ok (.iload_n 3, 1) := dk_29 (dk_at dksX1_keysOf_0 10 rfl rfl)
theorem dX1_keysOf_11 : decode cX1_keysOf 11 = .ok (.aload_n 0, 1) := dk_42 (dk_at dksX1_keysOf_0 11 rfl rfl)
theorem dX1_keysOf_12 : decode cX1_keysOf 12 = .ok (.invokevirtual 3, 3) := dk_182 0 3 (dk_at dksX1_keysOf_0 12 rfl rfl)
theorem dX1_keysOf_15 : decode cX1_keysOf 15 = .ok (.if_icmp .ge 104, 3) := dk_162 0 104 (dk_at dksX1_keysOf_0 15 rfl rfl)
theorem dX1_keysOf_18 : decode cX1_keysOf 18 = .ok (.aload_n 0, 1) := dk_42 (dk_at dksX1_keysOf_0 18 rfl rfl)
theorem dX1_keysOf_19 : decode cX1_keysOf 19 = .ok (.iload_n 3, 1) := dk_29 (dk_at dksX1_keysOf_0 19 rfl rfl)
theorem dX1_keysOf_20 : decode cX1_keysOf 20 = .ok (.invokevirtual 9, 3) := dk_182 0 9 (dk_at dksX1_keysOf_0 20 rfl rfl)
theorem dX1_keysOf_23 : decode cX1_keysOf 23 = .ok (.checkcast 216, 3) := dk_192 0 216 (dk_at dksX1_keysOf_1 0 rfl rfl)
theorem dX1_keysOf_26 : decode cX1_keysOf 26 = .ok (.getfield 244, 3) := dk_180 0 244 (dk_at dksX1_keysOf_1 3 rfl rfl)
theorem dX1_keysOf_29 : decode cX1_keysOf 29 = .ok (.iload_n 1, 1) := dk_27 (dk_at dksX1_keysOf_1 6 rfl rfl)
theorem dX1_keysOf_30 : decode cX1_keysOf 30 = .ok (.iaload, 1) := dk_46 (dk_at dksX1_keysOf_1 7 rfl rfl)
theorem dX1_keysOf_31 : decode cX1_keysOf 31 = .ok (.istore 4, 2) := dk_54 4 (dk_at dksX1_keysOf_1 8 rfl rfl)
theorem dX1_keysOf_33 : decode cX1_keysOf 33 = .ok (.iconst 0, 1) := dk_3 (dk_at dksX1_keysOf_1 10 rfl rfl)
theorem dX1_keysOf_34 : decode cX1_keysOf 34 = .ok (.istore 5, 2) := dk_54 5 (dk_at dksX1_keysOf_1 11 rfl rfl)
theorem dX1_keysOf_36 : decode cX1_keysOf 36 = .ok (.iload 5, 2) := dk_21 5 (dk_at dksX1_keysOf_1 13 rfl rfl)
theorem dX1_keysOf_38 : decode cX1_keysOf 38 = .ok (.aload_n 2, 1) := dk_44 (dk_at dksX1_keysOf_1 15 rfl rfl)
theorem dX1_keysOf_39 : decode cX1_keysOf 39 = .ok (.invokevirtual 3, 3) := dk_182 0 3 (dk_at dksX1_keysOf_1 16 rfl rfl)
theorem dX1_keysOf_42 : decode cX1_keysOf 42 = .ok (.if_icmp .ge 26, 3) := dk_162 0 26 (dk_at dksX1_keysOf_1 19 rfl rfl)
theorem dX1_keysOf_45 : decode cX1_keysOf 45 = .ok (.aload_n 2, 1) := dk_44 (dk_at dksX1_keysOf_1 22 rfl rfl)
theorem dX1_keysOf_46 : decode cX1_keysOf 46 = .ok (.iload 5, 2) := dk_21 5 (dk_at dksX1_keysOf_2 0 rfl rfl)
theorem dX1_keysOf_48 : decode cX1_keysOf 48 = .ok (.invokevirtual 9, 3) := dk_182 0 9 (dk_at dksX1_keysOf_2 2 rfl rfl)
theorem dX1_keysOf_51 : decode cX1_keysOf 51 = .ok (.checkcast 160, 3) := dk_192 0 160 (dk_at dksX1_keysOf_2 5 rfl rfl)
theorem dX1_keysOf_54 : decode cX1_keysOf 54 = .ok (.invokevirtual 278, 3) := dk_182 1 22 (dk_at dksX1_keysOf_2 8 rfl rfl)
theorem dX1_keysOf_57 : decode cX1_keysOf 57 = .ok (.iload 4, 2) := dk_21 4 (dk_at dksX1_keysOf_2 11 rfl rfl)
theorem dX1_keysOf_59 : decode cX1_keysOf 59 = .ok (.if_icmp .ge 9, 3) := dk_162 0 9 (dk_at dksX1_keysOf_2 13 rfl rfl)
theorem dX1_keysOf_62 : decode cX1_keysOf 62 = .ok (.iinc 5 1, 3) := dk_132 5 1 (dk_at dksX1_keysOf_2 16 rfl rfl)
theorem dX1_keysOf_65 : decode cX1_keysOf 65 = .ok (.goto (-29), 3) := dk_167 255 227 (dk_at dksX1_keysOf_2 19 rfl rfl)
theorem dX1_keysOf_68 : decode cX1_keysOf 68 = .ok (.iload 4, 2) := dk_21 4 (dk_at dksX1_keysOf_2 22 rfl rfl)
theorem dX1_keysOf_70 : decode cX1_keysOf 70 = .ok (.invokestatic 293, 3) := dk_184 1 37 (dk_at dksX1_keysOf_3 0 rfl rfl)
theorem dX1_keysOf_73 : decode cX1_keysOf 73 = .ok (.ifCond .eq 40, 3) := dk_153 0 40 (dk_at dksX1_keysOf_3 3 rfl rfl)
theorem dX1_keysOf_76 : decode cX1_keysOf 76 = .ok (.iload 5, 2) := dk_21 5 (dk_at dksX1_keysOf_3 6 rfl rfl)
theorem dX1_keysOf_78 : decode cX1_keysOf 78 = .ok (.aload_n 2, 1) := dk_44 (dk_at dksX1_keysOf_3 8 rfl rfl)
theorem dX1_keysOf_79 : decode cX1_keysOf 79 = .ok (.invokevirtual 3, 3) := dk_182 0 3 (dk_at dksX1_keysOf_3 9 rfl rfl)
theorem dX1_keysOf_82 : decode cX1_keysOf 82 = .ok (.if_icmp .eq 20, 3) := dk_159 0 20 (dk_at dksX1_keysOf_3 12 rfl rfl)
theorem dX1_keysOf_85 : decode cX1_keysOf 85 = .ok (.aload_n 2, 1) := dk_44 (dk_at dksX1_keysOf_3 15 rfl rfl)
theorem dX1_keysOf_86 : decode cX1_keysOf 86 = .ok (.iload 5, 2) := dk_21 5 (dk_at dksX1_keysOf_3 16 rfl rfl)
theorem dX1_keysOf_88 : decode cX1_keysOf 88 = .ok (.invokevirtual 9, 3) := dk_182 0 9 (dk_at dksX1_keysOf_3 18 rfl rfl)
theorem dX1_keysOf_91 : decode cX1_keysOf 91 = .ok (.checkcast 160, 3) := dk_192 0 160 (dk_at dksX1_keysOf_3 21 rfl rfl)
theorem dX1_keysOf_94 : decode cX1_keysOf 94 = .ok (.invokevirtual 278, 3) := dk_182 1 22 (dk_at dksX1_keysOf_4 0 rfl rfl)
theorem dX1_keysOf_97 : decode cX1_keysOf 97 = .ok (.iload 4, 2) := dk_21 4 (dk_at dksX1_keysOf_4 3 rfl rfl)
theorem dX1_keysOf_99 : decode cX1_keysOf 99 = .ok (.if_icmp .eq 14, 3) := dk_159 0 14 (dk_at dksX1_keysOf_4 5 rfl rfl)
theorem dX1_keysOf_102 : decode cX1_keysOf 102 = .ok (.aload_n 2, 1) := dk_44 (dk_at dksX1_keysOf_4 8 rfl rfl)
theorem dX1_keysOf_103 : decode cX1_keysOf 103 = .ok (.iload 5, 2) := dk_21 5 (dk_at dksX1_keysOf_4 9 rfl rfl)
theorem dX1_keysOf_105 : decode cX1_keysOf 105 = .ok (.iload 4, 2) := dk_21 4 (dk_at dksX1_keysOf_4 11 rfl rfl)
theorem dX1_keysOf_107 : decode cX1_keysOf 107 = .ok (.invokestatic 159, 3) := dk_184 0 159 (dk_at dksX1_keysOf_4 13 rfl rfl)
theorem dX1_keysOf_110 : decode cX1_keysOf 110 = .ok (.invokevirtual 405, 3) := dk_182 1 149 (dk_at dksX1_keysOf_4 16 rfl rfl)
theorem dX1_keysOf_113 : decode cX1_keysOf 113 = .ok (.iinc 3 1, 3) := dk_132 3 1 (dk_at dksX1_keysOf_4 19 rfl rfl)
theorem dX1_keysOf_116 : decode cX1_keysOf 116 = .ok (.goto (-106), 3) := dk_167 255 150 (dk_at dksX1_keysOf_5 0 rfl rfl)
theorem dX1_keysOf_119 : decode cX1_keysOf 119 = .ok (.aload_n 2, 1) := dk_44 (dk_at dksX1_keysOf_5 3 rfl rfl)
theorem dX1_keysOf_120 : decode cX1_keysOf 120 = .ok (.areturn, 1) := dk_176 (dk_at dksX1_keysOf_5 4 rfl rfl)
abbrev cX1_ship : ByteArray := prog_1_method_40_code
def yX1_ship : MethodName := ⟨RX1, "ship", "(LQueryHarbor$Seat;ILjava/util/ArrayList;IIII)V"⟩
def dkwX1_ship_12 : List UInt8 := [185, 1, 108, 1, 0, 104, 96, 181, 1, 91, 43, 42, 180, 0, 155, 181, 1, 111, 177]
abbrev dktX1_ship_12 : List UInt8 := dkwX1_ship_12 ++ []
def dkwX1_ship_11 : List UInt8 := [185, 1, 108, 1, 0, 104, 96, 181, 1, 68, 43, 89, 180, 1, 91, 21, 10, 25, 8, 180, 0, 183]
abbrev dktX1_ship_11 : List UInt8 := dkwX1_ship_11 ++ dktX1_ship_12
def dkwX1_ship_10 : List UInt8 := [180, 1, 105, 21, 10, 96, 181, 1, 105, 42, 180, 0, 84, 89, 180, 1, 68, 21, 10, 25, 8, 180, 0, 183]
abbrev dktX1_ship_10 : List UInt8 := dkwX1_ship_10 ++ dktX1_ship_11
def dkwX1_ship_9 : List UInt8 := [132, 10, 1, 43, 180, 1, 104, 25, 12, 182, 0, 165, 87, 132, 11, 1, 167, 255, 112, 42, 180, 0, 84, 89]
abbrev dktX1_ship_9 : List UInt8 := dkwX1_ship_9 ++ dktX1_ship_10
def dkwX1_ship_8 : List UInt8 := [184, 1, 97, 153, 0, 34, 21, 10, 25, 8, 180, 1, 12, 160, 0, 11, 43, 4, 181, 1, 101, 167, 0, 16]
abbrev dktX1_ship_8 : List UInt8 := dkwX1_ship_8 ++ dktX1_ship_9
def dkwX1_ship_7 : List UInt8 := [167, 0, 4, 3, 128, 54, 13, 132, 14, 1, 167, 255, 214, 21, 13, 153, 0, 46, 43, 180, 1, 94, 25, 12]
abbrev dktX1_ship_7 : List UInt8 := dkwX1_ship_7 ++ dktX1_ship_8
def dkwX1_ship_6 : List UInt8 := [25, 12, 180, 0, 244, 28, 46, 45, 21, 14, 182, 0, 9, 192, 0, 160, 182, 1, 22, 160, 0, 7, 4]
abbrev dktX1_ship_6 : List UInt8 := dkwX1_ship_6 ++ dktX1_ship_7
def dkwX1_ship_5 : List UInt8 := [2, 160, 0, 7, 4, 167, 0, 4, 3, 54, 13, 21, 4, 54, 14, 21, 14, 21, 5, 162, 0, 41, 21, 13]
abbrev dktX1_ship_5 : List UInt8 := dkwX1_ship_5 ++ dktX1_ship_6
def dkwX1_ship_4 : List UInt8 := [182, 0, 3, 162, 0, 135, 43, 180, 1, 85, 180, 0, 193, 21, 11, 182, 0, 9, 192, 0, 216, 58, 12, 28]
abbrev dktX1_ship_4 : List UInt8 := dkwX1_ship_4 ++ dktX1_ship_5
def dkwX1_ship_3 : List UInt8 := [96, 181, 1, 91, 25, 10, 191, 3, 54, 10, 3, 54, 11, 21, 11, 43, 180, 1, 85, 180, 0, 193]
abbrev dktX1_ship_3 : List UInt8 := dkwX1_ship_3 ++ dktX1_ship_4
def dkwX1_ship_2 : List UInt8 := [96, 181, 1, 91, 167, 0, 27, 58, 10, 43, 89, 180, 1, 91, 42, 180, 0, 84, 180, 1, 68, 21, 9, 100]
abbrev dktX1_ship_2 : List UInt8 := dkwX1_ship_2 ++ dktX1_ship_3
def dkwX1_ship_1 : List UInt8 := [21, 7, 42, 180, 0, 84, 182, 1, 88, 43, 89, 180, 1, 91, 42, 180, 0, 84, 180, 1, 68, 21, 9, 100]
abbrev dktX1_ship_1 : List UInt8 := dkwX1_ship_1 ++ dktX1_ship_2
def dkwX1_ship_0 : List UInt8 := [43, 180, 1, 85, 180, 0, 140, 58, 8, 42, 180, 0, 84, 180, 1, 68, 54, 9, 42, 25, 8, 21, 6]
abbrev dktX1_ship_0 : List UInt8 := dkwX1_ship_0 ++ dktX1_ship_1
theorem dksX1_ship_0 : cX1_ship.data.toList.drop 0 = dktX1_ship_0 := by decide +kernel
theorem dksX1_ship_1 : cX1_ship.data.toList.drop 23 = dktX1_ship_1 := dk_seg dksX1_ship_0 23 rfl rfl
theorem dksX1_ship_2 : cX1_ship.data.toList.drop 47 = dktX1_ship_2 := dk_seg dksX1_ship_1 24 rfl rfl
theorem dksX1_ship_3 : cX1_ship.data.toList.drop 71 = dktX1_ship_3 := dk_seg dksX1_ship_2 24 rfl rfl
theorem dksX1_ship_4 : cX1_ship.data.toList.drop 93 = dktX1_ship_4 := dk_seg dksX1_ship_3 22 rfl rfl
theorem dksX1_ship_5 : cX1_ship.data.toList.drop 117 = dktX1_ship_5 := dk_seg dksX1_ship_4 24 rfl rfl
theorem dksX1_ship_6 : cX1_ship.data.toList.drop 141 = dktX1_ship_6 := dk_seg dksX1_ship_5 24 rfl rfl
theorem dksX1_ship_7 : cX1_ship.data.toList.drop 164 = dktX1_ship_7 := dk_seg dksX1_ship_6 23 rfl rfl
theorem dksX1_ship_8 : cX1_ship.data.toList.drop 188 = dktX1_ship_8 := dk_seg dksX1_ship_7 24 rfl rfl
theorem dksX1_ship_9 : cX1_ship.data.toList.drop 212 = dktX1_ship_9 := dk_seg dksX1_ship_8 24 rfl rfl
theorem dksX1_ship_10 : cX1_ship.data.toList.drop 236 = dktX1_ship_10 := dk_seg dksX1_ship_9 24 rfl rfl
theorem dksX1_ship_11 : cX1_ship.data.toList.drop 260 = dktX1_ship_11 := dk_seg dksX1_ship_10 24 rfl rfl
theorem dksX1_ship_12 : cX1_ship.data.toList.drop 282 = dktX1_ship_12 := dk_seg dksX1_ship_11 22 rfl rfl
theorem dX1_ship_0 : decode cX1_ship 0 = .ok (.aload_n 1, 1) := dk_43 (dk_at dksX1_ship_0 0 rfl rfl)
theorem dX1_ship_1 : decode cX1_ship 1 = .ok (.getfield 341, 3) := dk_180 1 85 (dk_at dksX1_ship_0 1 rfl rfl)
theorem dX1_ship_4 : decode cX1_ship 4 = .ok (.getfield 140, 3) := dk_180 0 140 (dk_at dksX1_ship_0 4 rfl rfl)
theorem dX1_ship_7 : decode cX1_ship 7 = .ok (.astore 8, 2) := dk_58 8 (dk_at dksX1_ship_0 7 rfl rfl)
theorem dX1_ship_9 : decode cX1_ship 9 = .ok (.aload_n 0, 1) := dk_42 (dk_at dksX1_ship_0 9 rfl rfl)
theorem dX1_ship_10 : decode cX1_ship 10 = .ok (.getfield 84, 3) := dk_180 0 84 (dk_at dksX1_ship_0 10 rfl rfl)
theorem dX1_ship_13 : decode cX1_ship 13 = .ok (.getfield 324, 3) := dk_180 1 68 (dk_at dksX1_ship_0 13 rfl rfl)
theorem dX1_ship_16 : decode cX1_ship 16 = .ok (.istore 9, 2) := dk_54 9 (dk_at dksX1_ship_0 16 rfl rfl)
theorem dX1_ship_18 : decode cX1_ship 18 = .ok (.aload_n 0, 1) := dk_42 (dk_at dksX1_ship_0 18 rfl rfl)
theorem dX1_ship_19 : decode cX1_ship 19 = .ok (.aload 8, 2) := dk_25 8 (dk_at dksX1_ship_0 19 rfl rfl)
theorem dX1_ship_21 : decode cX1_ship 21 = .ok (.iload 6, 2) := dk_21 6 (dk_at dksX1_ship_0 21 rfl rfl)
theorem dX1_ship_23 : decode cX1_ship 23 = .ok (.iload 7, 2) := dk_21 7 (dk_at dksX1_ship_1 0 rfl rfl)
theorem dX1_ship_25 : decode cX1_ship 25 = .ok (.aload_n 0, 1) := dk_42 (dk_at dksX1_ship_1 2 rfl rfl)
theorem dX1_ship_26 : decode cX1_ship 26 = .ok (.getfield 84, 3) := dk_180 0 84 (dk_at dksX1_ship_1 3 rfl rfl)
theorem dX1_ship_29 : decode cX1_ship 29 = .ok (.invokevirtual 344, 3) := dk_182 1 88 (dk_at dksX1_ship_1 6 rfl rfl)
theorem dX1_ship_32 : decode cX1_ship 32 = .ok (.aload_n 1, 1) := dk_43 (dk_at dksX1_ship_1 9 rfl rfl)
theorem dX1_ship_33 : decode cX1_ship 33 = .ok (.dup, 1) := dk_89 (dk_at dksX1_ship_1 10 rfl rfl)
theorem dX1_ship_34 : decode cX1_ship 34 = .ok (.getfield 347, 3) := dk_180 1 91 (dk_at dksX1_ship_1 11 rfl rfl)
theorem dX1_ship_37 : decode cX1_ship 37 = .ok (.aload_n 0, 1) := dk_42 (dk_at dksX1_ship_1 14 rfl rfl)
theorem dX1_ship_38 : decode cX1_ship 38 = .ok (.getfield 84, 3) := dk_180 0 84 (dk_at dksX1_ship_1 15 rfl rfl)
theorem dX1_ship_41 : decode cX1_ship 41 = .ok (.getfield 324, 3) := dk_180 1 68 (dk_at dksX1_ship_1 18 rfl rfl)
theorem dX1_ship_44 : decode cX1_ship 44 = .ok (.iload 9, 2) := dk_21 9 (dk_at dksX1_ship_1 21 rfl rfl)
theorem dX1_ship_46 : decode cX1_ship 46 = .ok (.isub, 1) := dk_100 (dk_at dksX1_ship_1 23 rfl rfl)
theorem dX1_ship_47 : decode cX1_ship 47 = .ok (.iadd, 1) := dk_96 (dk_at dksX1_ship_2 0 rfl rfl)
theorem dX1_ship_48 : decode cX1_ship 48 = .ok (.putfield 347, 3) := dk_181 1 91 (dk_at dksX1_ship_2 1 rfl rfl)
theorem dX1_ship_51 : decode cX1_ship 51 = .ok (.goto 27, 3) := dk_167 0 27 (dk_at dksX1_ship_2 4 rfl rfl)
theorem dX1_ship_54 : decode cX1_ship 54 = .ok (.astore 10, 2) := dk_58 10 (dk_at dksX1_ship_2 7 rfl rfl)
theorem dX1_ship_56 : decode cX1_ship 56 = .ok (.aload_n 1, 1) := dk_43 (dk_at dksX1_ship_2 9 rfl rfl)
theorem dX1_ship_57 : decode cX1_ship 57 = .ok (.dup, 1) := dk_89 (dk_at dksX1_ship_2 10 rfl rfl)
theorem dX1_ship_58 : decode cX1_ship 58 = .ok (.getfield 347, 3) := dk_180 1 91 (dk_at dksX1_ship_2 11 rfl rfl)
theorem dX1_ship_61 : decode cX1_ship 61 = .ok (.aload_n 0, 1) := dk_42 (dk_at dksX1_ship_2 14 rfl rfl)
theorem dX1_ship_62 : decode cX1_ship 62 = .ok (.getfield 84, 3) := dk_180 0 84 (dk_at dksX1_ship_2 15 rfl rfl)
theorem dX1_ship_65 : decode cX1_ship 65 = .ok (.getfield 324, 3) := dk_180 1 68 (dk_at dksX1_ship_2 18 rfl rfl)
theorem dX1_ship_68 : decode cX1_ship 68 = .ok (.iload 9, 2) := dk_21 9 (dk_at dksX1_ship_2 21 rfl rfl)
theorem dX1_ship_70 : decode cX1_ship 70 = .ok (.isub, 1) := dk_100 (dk_at dksX1_ship_2 23 rfl rfl)
theorem dX1_ship_71 : decode cX1_ship 71 = .ok (.iadd, 1) := dk_96 (dk_at dksX1_ship_3 0 rfl rfl)
theorem dX1_ship_72 : decode cX1_ship 72 = .ok (.putfield 347, 3) := dk_181 1 91 (dk_at dksX1_ship_3 1 rfl rfl)
theorem dX1_ship_75 : decode cX1_ship 75 = .ok (.aload 10, 2) := dk_25 10 (dk_at dksX1_ship_3 4 rfl rfl)
theorem dX1_ship_77 : decode cX1_ship 77 = .ok (.athrow, 1) := dk_191 (dk_at dksX1_ship_3 6 rfl rfl)
theorem dX1_ship_78 : decode cX1_ship 78 = .ok (.iconst 0, 1) := dk_3 (dk_at dksX1_ship_3 7 rfl rfl)
theorem dX1_ship_79 : decode cX1_ship 79 = .ok (.istore 10, 2) := dk_54 10 (dk_at dksX1_ship_3 8 rfl rfl)
theorem dX1_ship_81 : decode cX1_ship 81 = .ok (.iconst 0, 1) := dk_3 (dk_at dksX1_ship_3 10 rfl rfl)
theorem dX1_ship_82 : decode cX1_ship 82 = .ok (.istore 11, 2) := dk_54 11 (dk_at dksX1_ship_3 11 rfl rfl)
theorem dX1_ship_84 : decode cX1_ship 84 = .ok (.iload 11, 2) := dk_21 11 (dk_at dksX1_ship_3 13 rfl rfl)
theorem dX1_ship_86 : decode cX1_ship 86 = .ok (.aload_n 1, 1) := dk_43 (dk_at dksX1_ship_3 15 rfl rfl)
theorem dX1_ship_87 : decode cX1_ship 87 = .ok (.getfield 341, 3) := dk_180 1 85 (dk_at dksX1_ship_3 16 rfl rfl)
theorem dX1_ship_90 : decode cX1_ship 90 = .ok (.getfield 193, 3) := dk_180 0 193 (dk_at dksX1_ship_3 19 rfl rfl)
theorem dX1_ship_93 : decode cX1_ship 93 = .ok (.invokevirtual 3, 3) := dk_182 0 3 (dk_at dksX1_ship_4 0 rfl rfl)
theorem dX1_ship_96 : decode cX1_ship 96 = .ok (.if_icmp .ge 135, 3) := dk_162 0 135 (dk_at dksX1_ship_4 3 rfl rfl)
theorem dX1_ship_99 : decode cX1_ship 99 = .ok (.aload_n 1, 1) := dk_43 (dk_at dksX1_ship_4 6 rfl rfl)
theorem dX1_ship_100 : decode cX1_ship 100 = .ok (.getfield 341, 3) := dk_180 1 85 (dk_at dksX1_ship_4 7 rfl rfl)
theorem dX1_ship_103 : decode cX1_ship 103 = .ok (.getfield 193, 3) := dk_180 0 193 (dk_at dksX1_ship_4 10 rfl rfl)
theorem dX1_ship_106 : decode cX1_ship 106 = .ok (.iload 11, 2) := dk_21 11 (dk_at dksX1_ship_4 13 rfl rfl)
theorem dX1_ship_108 : decode cX1_ship 108 = .ok (.invokevirtual 9, 3) := dk_182 0 9 (dk_at dksX1_ship_4 15 rfl rfl)
theorem dX1_ship_111 : decode cX1_ship 111 = .ok (.checkcast 216, 3) := dk_192 0 216 (dk_at dksX1_ship_4 18 rfl rfl)
theorem dX1_ship_114 : decode cX1_ship 114 = .ok (.astore 12, 2) := dk_58 12 (dk_at dksX1_ship_4 21 rfl rfl)
theorem dX1_ship_116 : decode cX1_ship 116 = .ok (.iload_n 2, 1) := dk_28 (dk_at dksX1_ship_4 23 rfl rfl)
theorem dX1_ship_117 : decode cX1_ship 117 = .ok (.iconst (-1), 1) := dk_2 (dk_at dksX1_ship_5 0 rfl rfl)
theorem dX1_ship_118 : decode cX1_ship 118 = .ok (.if_icmp .ne 7, 3) := dk_160 0 7 (dk_at dksX1_ship_5 1 rfl rfl)
theorem dX1_ship_121 : decode cX1_ship 121 = .ok (.iconst 1, 1) := dk_4 (dk_at dksX1_ship_5 4 rfl rfl)
theorem dX1_ship_122 : decode cX1_ship 122 = .ok (.goto 4, 3) := dk_167 0 4 (dk_at dksX1_ship_5 5 rfl rfl)
theorem dX1_ship_125 : decode cX1_ship 125 = .ok (.iconst 0, 1) := dk_3 (dk_at dksX1_ship_5 8 rfl rfl)
theorem dX1_ship_126 : decode cX1_ship 126 = .ok (.istore 13, 2) := dk_54 13 (dk_at dksX1_ship_5 9 rfl rfl)
theorem dX1_ship_128 : decode cX1_ship 128 = .ok (.iload 4, 2) := dk_21 4 (dk_at dksX1_ship_5 11 rfl rfl)
theorem dX1_ship_130 : decode cX1_ship 130 = .ok (.istore 14, 2) := dk_54 14 (dk_at dksX1_ship_5 13 rfl rfl)
theorem dX1_ship_132 : decode cX1_ship 132 = .ok (.iload 14, 2) := dk_21 14 (dk_at dksX1_ship_5 15 rfl rfl)
theorem dX1_ship_134 : decode cX1_ship 134 = .ok (.iload 5, 2) := dk_21 5 (dk_at dksX1_ship_5 17 rfl rfl)
theorem dX1_ship_136 : decode cX1_ship 136 = .ok (.if_icmp .ge 41, 3) := dk_162 0 41 (dk_at dksX1_ship_5 19 rfl rfl)
theorem dX1_ship_139 : decode cX1_ship 139 = .ok (.iload 13, 2) := dk_21 13 (dk_at dksX1_ship_5 22 rfl rfl)
theorem dX1_ship_141 : decode cX1_ship 141 = .ok (.aload 12, 2) := dk_25 12 (dk_at dksX1_ship_6 0 rfl rfl)
theorem dX1_ship_143 : decode cX1_ship 143 = .ok (.getfield 244, 3) := dk_180 0 244 (dk_at dksX1_ship_6 2 rfl rfl)
theorem dX1_ship_146 : decode cX1_ship 146 = .ok (.iload_n 2, 1) := dk_28 (dk_at dksX1_ship_6 5 rfl rfl)
theorem dX1_ship_147 : decode cX1_ship 147 = .ok (.iaload, 1) := dk_46 (dk_at dksX1_ship_6 6 rfl rfl)
theorem dX1_ship_148 : decode cX1_ship 148 = .ok (.aload_n 3, 1) := dk_45 (dk_at dksX1_ship_6 7 rfl rfl)
theorem dX1_ship_149 : decode cX1_ship 149 = .ok (.iload 14, 2) := dk_21 14 (dk_at dksX1_ship_6 8 rfl rfl)
theorem dX1_ship_151 : decode cX1_ship 151 = .ok (.invokevirtual 9, 3) := dk_182 0 9 (dk_at dksX1_ship_6 10 rfl rfl)
theorem dX1_ship_154 : decode cX1_ship 154 = .ok (.checkcast 160, 3) := dk_192 0 160 (dk_at dksX1_ship_6 13 rfl rfl)
theorem dX1_ship_157 : decode cX1_ship 157 = .ok (.invokevirtual 278, 3) := dk_182 1 22 (dk_at dksX1_ship_6 16 rfl rfl)
theorem dX1_ship_160 : decode cX1_ship 160 = .ok (.if_icmp .ne 7, 3) := dk_160 0 7 (dk_at dksX1_ship_6 19 rfl rfl)
theorem dX1_ship_163 : decode cX1_ship 163 = .ok (.iconst 1, 1) := dk_4 (dk_at dksX1_ship_6 22 rfl rfl)
theorem dX1_ship_164 : decode cX1_ship 164 = .ok (.goto 4, 3) := dk_167 0 4 (dk_at dksX1_ship_7 0 rfl rfl)
theorem dX1_ship_167 : decode cX1_ship 167 = .ok (.iconst 0, 1) := dk_3 (dk_at dksX1_ship_7 3 rfl rfl)
theorem dX1_ship_168 : decode cX1_ship 168 = .ok (.ior, 1) := dk_128 (dk_at dksX1_ship_7 4 rfl rfl)
theorem dX1_ship_169 : decode cX1_ship 169 = .ok (.istore 13, 2) := dk_54 13 (dk_at dksX1_ship_7 5 rfl rfl)
theorem dX1_ship_171 : decode cX1_ship 171 = .ok (.iinc 14 1, 3) := dk_132 14 1 (dk_at dksX1_ship_7 7 rfl rfl)
theorem dX1_ship_174 : decode cX1_ship 174 = .ok (.goto (-42), 3) := dk_167 255 214 (dk_at dksX1_ship_7 10 rfl rfl)
theorem dX1_ship_177 : decode cX1_ship 177 = .ok (.iload 13, 2) := dk_21 13 (dk_at dksX1_ship_7 13 rfl rfl)
theorem dX1_ship_179 : decode cX1_ship 179 = .ok (.ifCond .eq 46, 3) := dk_153 0 46 (dk_at dksX1_ship_7 15 rfl rfl)
theorem dX1_ship_182 : decode cX1_ship 182 = .ok (.aload_n 1, 1) := dk_43 (dk_at dksX1_ship_7 18 rfl rfl)
theorem dX1_ship_183 : decode cX1_ship 183 = .ok (.getfield 350, 3) := dk_180 1 94 (dk_at dksX1_ship_7 19 rfl rfl)
theorem dX1_ship_186 : decode cX1_ship 186 = .ok (.aload 12, 2) := dk_25 12 (dk_at dksX1_ship_7 22 rfl rfl)
theorem dX1_ship_188 : decode cX1_ship 188 = .ok (.invokestatic 353, 3) := dk_184 1 97 (dk_at dksX1_ship_8 0 rfl rfl)
theorem dX1_ship_191 : decode cX1_ship 191 = .ok (.ifCond .eq 34, 3) := dk_153 0 34 (dk_at dksX1_ship_8 3 rfl rfl)
theorem dX1_ship_194 : decode cX1_ship 194 = .ok (.iload 10, 2) := dk_21 10 (dk_at dksX1_ship_8 6 rfl rfl)
theorem dX1_ship_196 : decode cX1_ship 196 = .ok (.aload 8, 2) := dk_25 8 (dk_at dksX1_ship_8 8 rfl rfl)
theorem dX1_ship_198 : decode cX1_ship 198 = .ok (.getfield 268, 3) := dk_180 1 12 (dk_at dksX1_ship_8 10 rfl rfl)
theorem dX1_ship_201 : decode cX1_ship 201 = .ok (.if_icmp .ne 11, 3) := dk_160 0 11 (dk_at dksX1_ship_8 13 rfl rfl)
theorem dX1_ship_204 : decode cX1_ship 204 = .ok (.aload_n 1, 1) := dk_43 (dk_at dksX1_ship_8 16 rfl rfl)
theorem dX1_ship_205 : decode cX1_ship 205 = .ok (.iconst 1, 1) := dk_4 (dk_at dksX1_ship_8 17 rfl rfl)
theorem dX1_ship_206 : decode cX1_ship 206 = .ok (.putfield 357, 3) := dk_181 1 101 (dk_at dksX1_ship_8 18 rfl rfl)
theorem dX1_ship_209 : decode cX1_ship 209 = .ok (.goto 16, 3) := dk_167 0 16 (dk_at dksX1_ship_8 21 rfl rfl)
theorem dX1_ship_212 : decode cX1_ship 212 = .ok (.iinc 10 1, 3) := dk_132 10 1 (dk_at dksX1_ship_9 0 rfl rfl)
theorem dX1_ship_215 : decode cX1_ship 215 = .ok (.aload_n 1, 1) := dk_43 (dk_at dksX1_ship_9 3 rfl rfl)
theorem dX1_ship_216 : decode cX1_ship 216 = .ok (.getfield 360, 3) := dk_180 1 104 (dk_at dksX1_ship_9 4 rfl rfl)
theorem dX1_ship_219 : decode cX1_ship 219 = .ok (.aload 12, 2) := dk_25 12 (dk_at dksX1_ship_9 7 rfl rfl)
theorem dX1_ship_221 : decode cX1_ship 221 = .ok (.invokevirtual 165, 3) := dk_182 0 165 (dk_at dksX1_ship_9 9 rfl rfl)
theorem dX1_ship_224 : decode cX1_ship 224 = .ok (.pop, 1) := dk_87 (dk_at dksX1_ship_9 12 rfl rfl)
theorem dX1_ship_225 : decode cX1_ship 225 = .ok (.iinc 11 1, 3) := dk_132 11 1 (dk_at dksX1_ship_9 13 rfl rfl)
theorem dX1_ship_228 : decode cX1_ship 228 = .ok (.goto (-144), 3) := dk_167 255 112 (dk_at dksX1_ship_9 16 rfl rfl)
theorem dX1_ship_231 : decode cX1_ship 231 = .ok (.aload_n 0, 1) := dk_42 (dk_at dksX1_ship_9 19 rfl rfl)
theorem dX1_ship_232 : decode cX1_ship 232 = .ok (.getfield 84, 3) := dk_180 0 84 (dk_at dksX1_ship_9 20 rfl rfl)
theorem dX1_ship_235 : decode cX1_ship 235 = .ok (.dup, 1) := dk_89 (dk_at dksX1_ship_9 23 rfl rfl)
theorem dX1_ship_236 : decode cX1_ship 236 = .ok (.getfield 361, 3) := dk_180 1 105 (dk_at dksX1_ship_10 0 rfl rfl)
theorem dX1_ship_239 : decode cX1_ship 239 = .ok (.iload 10, 2) := dk_21 10 (dk_at dksX1_ship_10 3 rfl rfl)
theorem dX1_ship_241 : decode cX1_ship 241 = .ok (.iadd, 1) := dk_96 (dk_at dksX1_ship_10 5 rfl rfl)
theorem dX1_ship_242 : decode cX1_ship 242 = .ok (.putfield 361, 3) := dk_181 1 105 (dk_at dksX1_ship_10 6 rfl rfl)
theorem dX1_ship_245 : decode cX1_ship 245 = .ok (.aload_n 0, 1) := dk_42 (dk_at dksX1_ship_10 9 rfl rfl)
theorem dX1_ship_246 : decode cX1_ship 246 = .ok (.getfield 84, 3) := dk_180 0 84 (dk_at dksX1_ship_10 10 rfl rfl)
theorem dX1_ship_249 : decode cX1_ship 249 = .ok (.dup, 1) := dk_89 (dk_at dksX1_ship_10 13 rfl rfl)
theorem dX1_ship_250 : decode cX1_ship 250 = .ok (.getfield 324, 3) := dk_180 1 68 (dk_at dksX1_ship_10 14 rfl rfl)
theorem dX1_ship_253 : decode cX1_ship 253 = .ok (.iload 10, 2) := dk_21 10 (dk_at dksX1_ship_10 17 rfl rfl)
theorem dX1_ship_255 : decode cX1_ship 255 = .ok (.aload 8, 2) := dk_25 8 (dk_at dksX1_ship_10 19 rfl rfl)
theorem dX1_ship_257 : decode cX1_ship 257 = .ok (.getfield 183, 3) := dk_180 0 183 (dk_at dksX1_ship_10 21 rfl rfl)
theorem dX1_ship_260 : decode cX1_ship 260 = .ok (.invokeinterface 364 1, 5) := by decide +kernel
theorem dX1_ship_265 : decode cX1_ship 265 = .ok (.imul, 1) := dk_104 (dk_at dksX1_ship_11 5 rfl rfl)
theorem dX1_ship_266 : decode cX1_ship 266 = .ok (.iadd, 1) := dk_96 (dk_at dksX1_ship_11 6 rfl rfl)
theorem dX1_ship_267 : decode cX1_ship 267 = .ok (.putfield 324, 3) := dk_181 1 68 (dk_at dksX1_ship_11 7 rfl rfl)
theorem dX1_ship_270 : decode cX1_ship 270 = .ok (.aload_n 1, 1) := dk_43 (dk_at dksX1_ship_11 10 rfl rfl)
theorem dX1_ship_271 : decode cX1_ship 271 = .ok (.dup, 1) := dk_89 (dk_at dksX1_ship_11 11 rfl rfl)
theorem dX1_ship_272 : decode cX1_ship 272 = .ok (.getfield 347, 3) := dk_180 1 91 (dk_at dksX1_ship_11 12 rfl rfl)
theorem dX1_ship_275 : decode cX1_ship 275 = .ok (.iload 10, 2) := dk_21 10 (dk_at dksX1_ship_11 15 rfl rfl)
theorem dX1_ship_277 : decode cX1_ship 277 = .ok (.aload 8, 2) := dk_25 8 (dk_at dksX1_ship_11 17 rfl rfl)
theorem dX1_ship_279 : decode cX1_ship 279 = .ok (.getfield 183, 3) := dk_180 0 183 (dk_at dksX1_ship_11 19 rfl rfl)
theorem dX1_ship_282 : decode cX1_ship 282 = .ok (.invokeinterface 364 1, 5) := by decide +kernel
theorem dX1_ship_287 : decode cX1_ship 287 = .ok (.imul, 1) := dk_104 (dk_at dksX1_ship_12 5 rfl rfl)
theorem dX1_ship_288 : decode cX1_ship 288 = .ok (.iadd, 1) := dk_96 (dk_at dksX1_ship_12 6 rfl rfl)
theorem dX1_ship_289 : decode cX1_ship 289 = .ok (.putfield 347, 3) := dk_181 1 91 (dk_at dksX1_ship_12 7 rfl rfl)
theorem dX1_ship_292 : decode cX1_ship 292 = .ok (.aload_n 1, 1) := dk_43 (dk_at dksX1_ship_12 10 rfl rfl)
theorem dX1_ship_293 : decode cX1_ship 293 = .ok (.aload_n 0, 1) := dk_42 (dk_at dksX1_ship_12 11 rfl rfl)
theorem dX1_ship_294 : decode cX1_ship 294 = .ok (.getfield 155, 3) := dk_180 0 155 (dk_at dksX1_ship_12 12 rfl rfl)
theorem dX1_ship_297 : decode cX1_ship 297 = .ok (.putfield 367, 3) := dk_181 1 111 (dk_at dksX1_ship_12 15 rfl rfl)
theorem dX1_ship_300 : decode cX1_ship 300 = .ok (.return_, 1) := dk_177 (dk_at dksX1_ship_12 18 rfl rfl)
abbrev cX1_request : ByteArray := prog_1_method_39_code
def yX1_request : MethodName := ⟨RX1, "request", "(LQueryHarbor$Line;IILQueryHarbor$Answer;)V"⟩
def dkwX1_request_1 : List UInt8 := [25, 7, 58, 5, 132, 6, 1, 167, 255, 231, 187, 1, 58, 89, 19, 1, 83, 25, 5, 183, 1, 62, 191]
abbrev dktX1_request_1 : List UInt8 := dkwX1_request_1 ++ []
def dkwX1_request_0 : List UInt8 := [1, 58, 5, 3, 54, 6, 21, 6, 6, 162, 0, 25, 42, 43, 28, 29, 25, 4, 182, 1, 79, 177, 58, 7]
abbrev dktX1_request_0 : List UInt8 := dkwX1_request_0 ++ dktX1_request_1
theorem dksX1_request_0 : cX1_request.data.toList.drop 0 = dktX1_request_0 := by decide +kernel
theorem dksX1_request_1 : cX1_request.data.toList.drop 24 = dktX1_request_1 := dk_seg dksX1_request_0 24 rfl rfl
theorem dX1_request_0 : decode cX1_request 0 = .ok (.aconst_null, 1) := dk_1 (dk_at dksX1_request_0 0 rfl rfl)
theorem dX1_request_1 : decode cX1_request 1 = .ok (.astore 5, 2) := dk_58 5 (dk_at dksX1_request_0 1 rfl rfl)
theorem dX1_request_3 : decode cX1_request 3 = .ok (.iconst 0, 1) := dk_3 (dk_at dksX1_request_0 3 rfl rfl)
theorem dX1_request_4 : decode cX1_request 4 = .ok (.istore 6, 2) := dk_54 6 (dk_at dksX1_request_0 4 rfl rfl)
theorem dX1_request_6 : decode cX1_request 6 = .ok (.iload 6, 2) := dk_21 6 (dk_at dksX1_request_0 6 rfl rfl)
theorem dX1_request_8 : decode cX1_request 8 = .ok (.iconst 3, 1) := dk_6 (dk_at dksX1_request_0 8 rfl rfl)
theorem dX1_request_9 : decode cX1_request 9 = .ok (.if_icmp .ge 25, 3) := dk_162 0 25 (dk_at dksX1_request_0 9 rfl rfl)
theorem dX1_request_12 : decode cX1_request 12 = .ok (.aload_n 0, 1) := dk_42 (dk_at dksX1_request_0 12 rfl rfl)
theorem dX1_request_13 : decode cX1_request 13 = .ok (.aload_n 1, 1) := dk_43 (dk_at dksX1_request_0 13 rfl rfl)
theorem dX1_request_14 : decode cX1_request 14 = .ok (.iload_n 2, 1) := dk_28 (dk_at dksX1_request_0 14 rfl rfl)
theorem dX1_request_15 : decode cX1_request 15 = .ok (.iload_n 3, 1) := dk_29 (dk_at dksX1_request_0 15 rfl rfl)
theorem dX1_request_16 : decode cX1_request 16 = .ok (.aload 4, 2) := dk_25 4 (dk_at dksX1_request_0 16 rfl rfl)
theorem dX1_request_18 : decode cX1_request 18 = .ok (.invokevirtual 335, 3) := dk_182 1 79 (dk_at dksX1_request_0 18 rfl rfl)
theorem dX1_request_21 : decode cX1_request 21 = .ok (.return_, 1) := dk_177 (dk_at dksX1_request_0 21 rfl rfl)
theorem dX1_request_22 : decode cX1_request 22 = .ok (.astore 7, 2) := dk_58 7 (dk_at dksX1_request_0 22 rfl rfl)
theorem dX1_request_24 : decode cX1_request 24 = .ok (.aload 7, 2) := dk_25 7 (dk_at dksX1_request_1 0 rfl rfl)
theorem dX1_request_26 : decode cX1_request 26 = .ok (.astore 5, 2) := dk_58 5 (dk_at dksX1_request_1 2 rfl rfl)
theorem dX1_request_28 : decode cX1_request 28 = .ok (.iinc 6 1, 3) := dk_132 6 1 (dk_at dksX1_request_1 4 rfl rfl)
theorem dX1_request_31 : decode cX1_request 31 = .ok (.goto (-25), 3) := dk_167 255 231 (dk_at dksX1_request_1 7 rfl rfl)
theorem dX1_request_34 : decode cX1_request 34 = .ok (.new 314, 3) := dk_187 1 58 (dk_at dksX1_request_1 10 rfl rfl)
theorem dX1_request_37 : decode cX1_request 37 = .ok (.dup, 1) := dk_89 (dk_at dksX1_request_1 13 rfl rfl)
theorem dX1_request_38 : decode cX1_request 38 = .ok (.ldc_w 339, 3) := dk_19 1 83 (dk_at dksX1_request_1 14 rfl rfl)
theorem dX1_request_41 : decode cX1_request 41 = .ok (.aload 5, 2) := dk_25 5 (dk_at dksX1_request_1 17 rfl rfl)
theorem dX1_request_43 : decode cX1_request 43 = .ok (.invokespecial 318, 3) := dk_183 1 62 (dk_at dksX1_request_1 19 rfl rfl)
theorem dX1_request_46 : decode cX1_request 46 = .ok (.athrow, 1) := dk_191 (dk_at dksX1_request_1 22 rfl rfl)
abbrev cX1_attempt : ByteArray := prog_1_method_38_code
def yX1_attempt : MethodName := ⟨RX1, "attempt", "(LQueryHarbor$Line;IILQueryHarbor$Answer;)V"⟩
def dkwX1_attempt_8 : List UInt8 := [183, 1, 78, 191, 177]
abbrev dktX1_attempt_8 : List UInt8 := dkwX1_attempt_8 ++ []
def dkwX1_attempt_7 : List UInt8 := [180, 1, 15, 158, 0, 24, 43, 89, 180, 1, 15, 4, 100, 181, 1, 15, 187, 1, 74, 89, 19, 1, 76]
abbrev dktX1_attempt_7 : List UInt8 := dkwX1_attempt_7 ++ dktX1_attempt_8
def dkwX1_attempt_6 : List UInt8 := [185, 1, 71, 1, 0, 96, 181, 1, 68, 42, 42, 180, 0, 116, 43, 180, 1, 6, 96, 182, 0, 175, 43]
abbrev dktX1_attempt_6 : List UInt8 := dkwX1_attempt_6 ++ dktX1_attempt_7
def dkwX1_attempt_5 : List UInt8 := [181, 1, 52, 25, 4, 89, 180, 1, 65, 4, 96, 181, 1, 65, 25, 4, 89, 180, 1, 68, 43, 180, 0, 183]
abbrev dktX1_attempt_5 : List UInt8 := dkwX1_attempt_5 ++ dktX1_attempt_6
def dkwX1_attempt_4 : List UInt8 := [160, 0, 12, 43, 180, 1, 55, 4, 96, 167, 0, 4, 4, 181, 1, 55, 43, 42, 180, 0, 116, 16, 10, 108]
abbrev dktX1_attempt_4 : List UInt8 := dkwX1_attempt_4 ++ dktX1_attempt_5
def dkwX1_attempt_3 : List UInt8 := [187, 1, 58, 89, 19, 1, 60, 1, 183, 1, 62, 191, 43, 43, 180, 1, 52, 42, 180, 0, 116, 16, 10, 108]
abbrev dktX1_attempt_3 : List UInt8 := dkwX1_attempt_3 ++ dktX1_attempt_4
def dkwX1_attempt_2 : List UInt8 := [96, 16, 10, 104, 182, 0, 175, 29, 2, 159, 0, 25, 42, 180, 0, 116, 28, 100, 29, 164, 0, 15]
abbrev dktX1_attempt_2 : List UInt8 := dkwX1_attempt_2 ++ dktX1_attempt_3
def dkwX1_attempt_1 : List UInt8 := [161, 0, 7, 4, 167, 0, 4, 3, 54, 5, 21, 5, 153, 0, 19, 42, 42, 180, 0, 116, 16, 10, 108, 4]
abbrev dktX1_attempt_1 : List UInt8 := dkwX1_attempt_1 ++ dktX1_attempt_2
def dkwX1_attempt_0 : List UInt8 := [43, 180, 1, 52, 42, 180, 0, 116, 16, 10, 108, 160, 0, 18, 43, 180, 1, 55, 43, 180, 1, 9]
abbrev dktX1_attempt_0 : List UInt8 := dkwX1_attempt_0 ++ dktX1_attempt_1
theorem dksX1_attempt_0 : cX1_attempt.data.toList.drop 0 = dktX1_attempt_0 := by decide +kernel
theorem dksX1_attempt_1 : cX1_attempt.data.toList.drop 22 = dktX1_attempt_1 := dk_seg dksX1_attempt_0 22 rfl rfl
theorem dksX1_attempt_2 : cX1_attempt.data.toList.drop 46 = dktX1_attempt_2 := dk_seg dksX1_attempt_1 24 rfl rfl
theorem dksX1_attempt_3 : cX1_attempt.data.toList.drop 68 = dktX1_attempt_3 := dk_seg dksX1_attempt_2 22 rfl rfl
theorem dksX1_attempt_4 : cX1_attempt.data.toList.drop 92 = dktX1_attempt_4 := dk_seg dksX1_attempt_3 24 rfl rfl
theorem dksX1_attempt_5 : cX1_attempt.data.toList.drop 116 = dktX1_attempt_5 := dk_seg dksX1_attempt_4 24 rfl rfl
theorem dksX1_attempt_6 : cX1_attempt.data.toList.drop 140 = dktX1_attempt_6 := dk_seg dksX1_attempt_5 24 rfl rfl
theorem dksX1_attempt_7 : cX1_attempt.data.toList.drop 163 = dktX1_attempt_7 := dk_seg dksX1_attempt_6 23 rfl rfl
theorem dksX1_attempt_8 : cX1_attempt.data.toList.drop 186 = dktX1_attempt_8 := dk_seg dksX1_attempt_7 23 rfl rfl
theorem dX1_attempt_0 : decode cX1_attempt 0 = .ok (.aload_n 1, 1) := dk_43 (dk_at dksX1_attempt_0 0 rfl rfl)
theorem dX1_attempt_1 : decode cX1_attempt 1 = .ok (.getfield 308, 3) := dk_180 1 52 (dk_at dksX1_attempt_0 1 rfl rfl)
theorem dX1_attempt_4 : decode cX1_attempt 4 = .ok (.aload_n 0, 1) := dk_42 (dk_at dksX1_attempt_0 4 rfl rfl)
theorem dX1_attempt_5 : decode cX1_attempt 5 = .ok (.getfield 116, 3) := dk_180 0 116 (dk_at dksX1_attempt_0 5 rfl rfl)
theorem dX1_attempt_8 : decode cX1_attempt 8 = .ok (.bipush 10, 2) := dk_16 10 (dk_at dksX1_attempt_0 8 rfl rfl)
theorem dX1_attempt_10 : decode cX1_attempt 10 = .ok (.idiv, 1) := dk_108 (dk_at dksX1_attempt_0 10 rfl rfl)
theorem dX1_attempt_11 : decode cX1_attempt 11 = .ok (.if_icmp .ne 18, 3) := dk_160 0 18 (dk_at dksX1_attempt_0 11 rfl rfl)
theorem dX1_attempt_14 : decode cX1_attempt 14 = .ok (.aload_n 1, 1) := dk_43 (dk_at dksX1_attempt_0 14 rfl rfl)
theorem dX1_attempt_15 : decode cX1_attempt 15 = .ok (.getfield 311, 3) := dk_180 1 55 (dk_at dksX1_attempt_0 15 rfl rfl)
theorem dX1_attempt_18 : decode cX1_attempt 18 = .ok (.aload_n 1, 1) := dk_43 (dk_at dksX1_attempt_0 18 rfl rfl)
theorem dX1_attempt_19 : decode cX1_attempt 19 = .ok (.getfield 265, 3) := dk_180 1 9 (dk_at dksX1_attempt_0 19 rfl rfl)
theorem dX1_attempt_22 : decode cX1_attempt 22 = .ok (.if_icmp .lt 7, 3) := dk_161 0 7 (dk_at dksX1_attempt_1 0 rfl rfl)
theorem dX1_attempt_25 : decode cX1_attempt 25 = .ok (.iconst 1, 1) := dk_4 (dk_at dksX1_attempt_1 3 rfl rfl)
theorem dX1_attempt_26 : decode cX1_attempt 26 = .ok (.goto 4, 3) := dk_167 0 4 (dk_at dksX1_attempt_1 4 rfl rfl)
theorem dX1_attempt_29 : decode cX1_attempt 29 = .ok (.iconst 0, 1) := dk_3 (dk_at dksX1_attempt_1 7 rfl rfl)
theorem dX1_attempt_30 : decode cX1_attempt 30 = .ok (.istore 5, 2) := dk_54 5 (dk_at dksX1_attempt_1 8 rfl rfl)
theorem dX1_attempt_32 : decode cX1_attempt 32 = .ok (.iload 5, 2) := dk_21 5 (dk_at dksX1_attempt_1 10 rfl rfl)
theorem dX1_attempt_34 : decode cX1_attempt 34 = .ok (.ifCond .eq 19, 3) := dk_153 0 19 (dk_at dksX1_attempt_1 12 rfl rfl)
theorem dX1_attempt_37 : decode cX1_attempt 37 = .ok (.aload_n 0, 1) := dk_42 (dk_at dksX1_attempt_1 15 rfl rfl)
theorem dX1_attempt_38 : decode cX1_attempt 38 = .ok (.aload_n 0, 1) := dk_42 (dk_at dksX1_attempt_1 16 rfl rfl)
theorem dX1_attempt_39 : decode cX1_attempt 39 = .ok (.getfield 116, 3) := dk_180 0 116 (dk_at dksX1_attempt_1 17 rfl rfl)
theorem dX1_attempt_42 : decode cX1_attempt 42 = .ok (.bipush 10, 2) := dk_16 10 (dk_at dksX1_attempt_1 20 rfl rfl)
theorem dX1_attempt_44 : decode cX1_attempt 44 = .ok (.idiv, 1) := dk_108 (dk_at dksX1_attempt_1 22 rfl rfl)
theorem dX1_attempt_45 : decode cX1_attempt 45 = .ok (.iconst 1, 1) := dk_4 (dk_at dksX1_attempt_1 23 rfl rfl)
theorem dX1_attempt_46 : decode cX1_attempt 46 = .ok (.iadd, 1) := dk_96 (dk_at dksX1_attempt_2 0 rfl rfl)
theorem dX1_attempt_47 : decode cX1_attempt 47 = .ok (.bipush 10, 2) := dk_16 10 (dk_at dksX1_attempt_2 1 rfl rfl)
theorem dX1_attempt_49 : decode cX1_attempt 49 = .ok (.imul, 1) := dk_104 (dk_at dksX1_attempt_2 3 rfl rfl)
theorem dX1_attempt_50 : decode cX1_attempt 50 = .ok (.invokevirtual 175, 3) := dk_182 0 175 (dk_at dksX1_attempt_2 4 rfl rfl)
theorem dX1_attempt_53 : decode cX1_attempt 53 = .ok (.iload_n 3, 1) := dk_29 (dk_at dksX1_attempt_2 7 rfl rfl)
theorem dX1_attempt_54 : decode cX1_attempt 54 = .ok (.iconst (-1), 1) := dk_2 (dk_at dksX1_attempt_2 8 rfl rfl)
theorem dX1_attempt_55 : decode cX1_attempt 55 = .ok (.if_icmp .eq 25, 3) := dk_159 0 25 (dk_at dksX1_attempt_2 9 rfl rfl)
theorem dX1_attempt_58 : decode cX1_attempt 58 = .ok (.aload_n 0, 1) := dk_42 (dk_at dksX1_attempt_2 12 rfl rfl)
theorem dX1_attempt_59 : decode cX1_attempt 59 = .ok (.getfield 116, 3) := dk_180 0 116 (dk_at dksX1_attempt_2 13 rfl rfl)
theorem dX1_attempt_62 : decode cX1_attempt 62 = .ok (.iload_n 2, 1) := dk_28 (dk_at dksX1_attempt_2 16 rfl rfl)
theorem dX1_attempt_63 : decode cX1_attempt 63 = .ok (.isub, 1) := dk_100 (dk_at dksX1_attempt_2 17 rfl rfl)
theorem dX1_attempt_64 : decode cX1_attempt 64 = .ok (.iload_n 3, 1) := dk_29 (dk_at dksX1_attempt_2 18 rfl rfl)
theorem dX1_attempt_65 : decode cX1_attempt 65 = .ok (.if_icmp .le 15, 3) := dk_164 0 15 (dk_at dksX1_attempt_2 19 rfl rfl)
theorem dX1_attempt_68 : decode cX1_attempt 68 = .ok (.new 314, 3) := dk_187 1 58 (dk_at dksX1_attempt_3 0 rfl rfl)
theorem dX1_attempt_71 : decode cX1_attempt 71 = .ok (.dup, 1) := dk_89 (dk_at dksX1_attempt_3 3 rfl rfl)
theorem dX1_attempt_72 : decode cX1_attempt 72 = .ok (.ldc_w 316, 3) := dk_19 1 60 (dk_at dksX1_attempt_3 4 rfl rfl)
theorem dX1_attempt_75 : decode cX1_attempt 75 = .ok (.aconst_null, 1) := dk_1 (dk_at dksX1_attempt_3 7 rfl rfl)
theorem dX1_attempt_76 : decode cX1_attempt 76 = .ok (.invokespecial 318, 3) := dk_183 1 62 (dk_at dksX1_attempt_3 8 rfl rfl)
theorem dX1_attempt_79 : decode cX1_attempt 79 = .ok (.athrow, 1) := dk_191 (dk_at dksX1_attempt_3 11 rfl rfl)
theorem dX1_attempt_80 : decode cX1_attempt 80 = .ok (.aload_n 1, 1) := dk_43 (dk_at dksX1_attempt_3 12 rfl rfl)
theorem dX1_attempt_81 : decode cX1_attempt 81 = .ok (.aload_n 1, 1) := dk_43 (dk_at dksX1_attempt_3 13 rfl rfl)
theorem dX1_attempt_82 : decode cX1_attempt 82 = .ok (.getfield 308, 3) := dk_180 1 52 (dk_at dksX1_attempt_3 14 rfl rfl)
theorem dX1_attempt_85 : decode cX1_attempt 85 = .ok (.aload_n 0, 1) := dk_42 (dk_at dksX1_attempt_3 17 rfl rfl)
theorem dX1_attempt_86 : decode cX1_attempt 86 = .ok (.getfield 116, 3) := dk_180 0 116 (dk_at dksX1_attempt_3 18 rfl rfl)
theorem dX1_attempt_89 : decode cX1_attempt 89 = .ok (.bipush 10, 2) := dk_16 10 (dk_at dksX1_attempt_3 21 rfl rfl)
theorem dX1_attempt_91 : decode cX1_attempt 91 = .ok (.idiv, 1) := dk_108 (dk_at dksX1_attempt_3 23 rfl rfl)
theorem dX1_attempt_92 : decode cX1_attempt 92 = .ok (.if_icmp .ne 12, 3) := dk_160 0 12 (dk_at dksX1_attempt_4 0 rfl rfl)
theorem dX1_attempt_95 : decode cX1_attempt 95 = .ok (.aload_n 1, 1) := dk_43 (dk_at dksX1_attempt_4 3 rfl rfl)
theorem dX1_attempt_96 : decode cX1_attempt 96 = .ok (.getfield 311, 3) := dk_180 1 55 (dk_at dksX1_attempt_4 4 rfl rfl)
theorem dX1_attempt_99 : decode cX1_attempt 99 = .ok (.iconst 1, 1) := dk_4 (dk_at dksX1_attempt_4 7 rfl rfl)
theorem dX1_attempt_100 : decode cX1_attempt 100 = .ok (.iadd, 1) := dk_96 (dk_at dksX1_attempt_4 8 rfl rfl)
theorem dX1_attempt_101 : decode cX1_attempt 101 = .ok (.goto 4, 3) := dk_167 0 4 (dk_at dksX1_attempt_4 9 rfl rfl)
theorem dX1_attempt_104 : decode cX1_attempt 104 = .ok (.iconst 1, 1) := dk_4 (dk_at dksX1_attempt_4 12 rfl rfl)
theorem dX1_attempt_105 : decode cX1_attempt 105 = .ok (.putfield 311, 3) := dk_181 1 55 (dk_at dksX1_attempt_4 13 rfl rfl)
theorem dX1_attempt_108 : decode cX1_attempt 108 = .ok (.aload_n 1, 1) := dk_43 (dk_at dksX1_attempt_4 16 rfl rfl)
theorem dX1_attempt_109 : decode cX1_attempt 109 = .ok (.aload_n 0, 1) := dk_42 (dk_at dksX1_attempt_4 17 rfl rfl)
theorem dX1_attempt_110 : decode cX1_attempt 110 = .ok (.getfield 116, 3) := dk_180 0 116 (dk_at dksX1_attempt_4 18 rfl rfl)
theorem dX1_attempt_113 : decode cX1_attempt 113 = .ok (.bipush 10, 2) := dk_16 10 (dk_at dksX1_attempt_4 21 rfl rfl)
theorem dX1_attempt_115 : decode cX1_attempt 115 = .ok (.idiv, 1) := dk_108 (dk_at dksX1_attempt_4 23 rfl rfl)
theorem dX1_attempt_116 : decode cX1_attempt 116 = .ok (.putfield 308, 3) := dk_181 1 52 (dk_at dksX1_attempt_5 0 rfl rfl)
theorem dX1_attempt_119 : decode cX1_attempt 119 = .ok (.aload 4, 2) := dk_25 4 (dk_at dksX1_attempt_5 3 rfl rfl)
theorem dX1_attempt_121 : decode cX1_attempt 121 = .ok (.dup, 1) := dk_89 (dk_at dksX1_attempt_5 5 rfl rfl)
theorem dX1_attempt_122 : decode cX1_attempt 122 = .ok (.getfield 321, 3) := dk_180 1 65 (dk_at dksX1_attempt_5 6 rfl rfl)
theorem dX1_attempt_125 : decode cX1_attempt 125 = .ok (.iconst 1, 1) := dk_4 (dk_at dksX1_attempt_5 9 rfl rfl)
theorem dX1_attempt_126 : decode cX1_attempt 126 = .ok (.iadd, 1) := dk_96 (dk_at dksX1_attempt_5 10 rfl rfl)
theorem dX1_attempt_127 : decode cX1_attempt 127 = .ok (.putfield 321, 3) := dk_181 1 65 (dk_at dksX1_attempt_5 11 rfl rfl)
theorem dX1_attempt_130 : decode cX1_attempt 130 = .ok (.aload 4, 2) := dk_25 4 (dk_at dksX1_attempt_5 14 rfl rfl)
theorem dX1_attempt_132 : decode cX1_attempt 132 = .ok (.dup, 1) := dk_89 (dk_at dksX1_attempt_5 16 rfl rfl)
theorem dX1_attempt_133 : decode cX1_attempt 133 = .ok (.getfield 324, 3) := dk_180 1 68 (dk_at dksX1_attempt_5 17 rfl rfl)
theorem dX1_attempt_136 : decode cX1_attempt 136 = .ok (.aload_n 1, 1) := dk_43 (dk_at dksX1_attempt_5 20 rfl rfl)
theorem dX1_attempt_137 : decode cX1_attempt 137 = .ok (.getfield 183, 3) := dk_180 0 183 (dk_at dksX1_attempt_5 21 rfl rfl)
theorem dX1_attempt_140 : decode cX1_attempt 140 = .ok (.invokeinterface 327 1, 5) := by decide +kernel
theorem dX1_attempt_145 : decode cX1_attempt 145 = .ok (.iadd, 1) := dk_96 (dk_at dksX1_attempt_6 5 rfl rfl)
theorem dX1_attempt_146 : decode cX1_attempt 146 = .ok (.putfield 324, 3) := dk_181 1 68 (dk_at dksX1_attempt_6 6 rfl rfl)
theorem dX1_attempt_149 : decode cX1_attempt 149 = .ok (.aload_n 0, 1) := dk_42 (dk_at dksX1_attempt_6 9 rfl rfl)
theorem dX1_attempt_150 : decode cX1_attempt 150 = .ok (.aload_n 0, 1) := dk_42 (dk_at dksX1_attempt_6 10 rfl rfl)
theorem dX1_attempt_151 : decode cX1_attempt 151 = .ok (.getfield 116, 3) := dk_180 0 116 (dk_at dksX1_attempt_6 11 rfl rfl)
theorem dX1_attempt_154 : decode cX1_attempt 154 = .ok (.aload_n 1, 1) := dk_43 (dk_at dksX1_attempt_6 14 rfl rfl)
theorem dX1_attempt_155 : decode cX1_attempt 155 = .ok (.getfield 262, 3) := dk_180 1 6 (dk_at dksX1_attempt_6 15 rfl rfl)
theorem dX1_attempt_158 : decode cX1_attempt 158 = .ok (.iadd, 1) := dk_96 (dk_at dksX1_attempt_6 18 rfl rfl)
theorem dX1_attempt_159 : decode cX1_attempt 159 = .ok (.invokevirtual 175, 3) := dk_182 0 175 (dk_at dksX1_attempt_6 19 rfl rfl)
theorem dX1_attempt_162 : decode cX1_attempt 162 = .ok (.aload_n 1, 1) := dk_43 (dk_at dksX1_attempt_6 22 rfl rfl)
theorem dX1_attempt_163 : decode cX1_attempt 163 = .ok (.getfield 271, 3) := dk_180 1 15 (dk_at dksX1_attempt_7 0 rfl rfl)
theorem dX1_attempt_166 : decode cX1_attempt 166 = .ok (.ifCond .le 24, 3) := dk_158 0 24 (dk_at dksX1_attempt_7 3 rfl rfl)
theorem dX1_attempt_169 : decode cX1_attempt 169 = .ok (.aload_n 1, 1) := dk_43 (dk_at dksX1_attempt_7 6 rfl rfl)
theorem dX1_attempt_170 : decode cX1_attempt 170 = .ok (.dup, 1) := dk_89 (dk_at dksX1_attempt_7 7 rfl rfl)
theorem dX1_attempt_171 : decode cX1_attempt 171 = .ok (.getfield 271, 3) := dk_180 1 15 (dk_at dksX1_attempt_7 8 rfl rfl)
theorem dX1_attempt_174 : decode cX1_attempt 174 = .ok (.iconst 1, 1) := dk_4 (dk_at dksX1_attempt_7 11 rfl rfl)
theorem dX1_attempt_175 : decode cX1_attempt 175 = .ok (.isub, 1) := dk_100 (dk_at dksX1_attempt_7 12 rfl rfl)
theorem dX1_attempt_176 : decode cX1_attempt 176 = .ok (.putfield 271, 3) := dk_181 1 15 (dk_at dksX1_attempt_7 13 rfl rfl)
theorem dX1_attempt_179 : decode cX1_attempt 179 = .ok (.new 330, 3) := dk_187 1 74 (dk_at dksX1_attempt_7 16 rfl rfl)
theorem dX1_attempt_182 : decode cX1_attempt 182 = .ok (.dup, 1) := dk_89 (dk_at dksX1_attempt_7 19 rfl rfl)
theorem dX1_attempt_183 : decode cX1_attempt 183 = .ok (.ldc_w 332, 3) := dk_19 1 76 (dk_at dksX1_attempt_7 20 rfl rfl)
theorem dX1_attempt_186 : decode cX1_attempt 186 = .ok (.invokespecial 334, 3) := dk_183 1 78 (dk_at dksX1_attempt_8 0 rfl rfl)
theorem dX1_attempt_189 : decode cX1_attempt 189 = .ok (.athrow, 1) := dk_191 (dk_at dksX1_attempt_8 3 rfl rfl)
theorem dX1_attempt_190 : decode cX1_attempt 190 = .ok (.return_, 1) := dk_177 (dk_at dksX1_attempt_8 4 rfl rfl)
abbrev cX1_holdAll : ByteArray := prog_1_method_3_code
def yX1_holdAll : MethodName := ⟨RX1, "holdAll", "(Ljava/util/ArrayList;LQueryHarbor$Row;)Z"⟩
def dkwX1_holdAll_1 : List UInt8 := [182, 0, 15, 126, 61, 132, 3, 1, 167, 255, 230, 28, 172]
abbrev dktX1_holdAll_1 : List UInt8 := dkwX1_holdAll_1 ++ []
def dkwX1_holdAll_0 : List UInt8 := [4, 61, 3, 62, 29, 42, 182, 0, 3, 162, 0, 24, 28, 42, 29, 182, 0, 9, 192, 0, 13, 43]
abbrev dktX1_holdAll_0 : List UInt8 := dkwX1_holdAll_0 ++ dktX1_holdAll_1
theorem dksX1_holdAll_0 : cX1_holdAll.data.toList.drop 0 = dktX1_holdAll_0 := by decide +kernel
theorem dksX1_holdAll_1 : cX1_holdAll.data.toList.drop 22 = dktX1_holdAll_1 := dk_seg dksX1_holdAll_0 22 rfl rfl
theorem dX1_holdAll_0 : decode cX1_holdAll 0 = .ok (.iconst 1, 1) := dk_4 (dk_at dksX1_holdAll_0 0 rfl rfl)
theorem dX1_holdAll_1 : decode cX1_holdAll 1 = .ok (.istore_n 2, 1) := dk_61 (dk_at dksX1_holdAll_0 1 rfl rfl)
theorem dX1_holdAll_2 : decode cX1_holdAll 2 = .ok (.iconst 0, 1) := dk_3 (dk_at dksX1_holdAll_0 2 rfl rfl)
theorem dX1_holdAll_3 : decode cX1_holdAll 3 = .ok (.istore_n 3, 1) := dk_62 (dk_at dksX1_holdAll_0 3 rfl rfl)
theorem dX1_holdAll_4 : decode cX1_holdAll 4 = .ok (.iload_n 3, 1) := dk_29 (dk_at dksX1_holdAll_0 4 rfl rfl)
theorem dX1_holdAll_5 : decode cX1_holdAll 5 = .ok (.aload_n 0, 1) := dk_42 (dk_at dksX1_holdAll_0 5 rfl rfl)
theorem dX1_holdAll_6 : decode cX1_holdAll 6 = .ok (.invokevirtual 3, 3) := dk_182 0 3 (dk_at dksX1_holdAll_0 6 rfl rfl)
theorem dX1_holdAll_9 : decode cX1_holdAll 9 = .ok (.if_icmp .ge 24, 3) := dk_162 0 24 (dk_at dksX1_holdAll_0 9 rfl rfl)
theorem dX1_holdAll_12 : decode cX1_holdAll 12 = .ok (.iload_n 2, 1) := dk_28 (dk_at dksX1_holdAll_0 12 rfl rfl)
theorem dX1_holdAll_13 : decode cX1_holdAll 13 = .ok (.aload_n 0, 1) := dk_42 (dk_at dksX1_holdAll_0 13 rfl rfl)
theorem dX1_holdAll_14 : decode cX1_holdAll 14 = .ok (.iload_n 3, 1) := dk_29 (dk_at dksX1_holdAll_0 14 rfl rfl)
theorem dX1_holdAll_15 : decode cX1_holdAll 15 = .ok (.invokevirtual 9, 3) := dk_182 0 9 (dk_at dksX1_holdAll_0 15 rfl rfl)
theorem dX1_holdAll_18 : decode cX1_holdAll 18 = .ok (.checkcast 13, 3) := dk_192 0 13 (dk_at dksX1_holdAll_0 18 rfl rfl)
theorem dX1_holdAll_21 : decode cX1_holdAll 21 = .ok (.aload_n 1, 1) := dk_43 (dk_at dksX1_holdAll_0 21 rfl rfl)
theorem dX1_holdAll_22 : decode cX1_holdAll 22 = .ok (.invokevirtual 15, 3) := dk_182 0 15 (dk_at dksX1_holdAll_1 0 rfl rfl)
theorem dX1_holdAll_25 : decode cX1_holdAll 25 = .ok (.iand, 1) := dk_126 (dk_at dksX1_holdAll_1 3 rfl rfl)
theorem dX1_holdAll_26 : decode cX1_holdAll 26 = .ok (.istore_n 2, 1) := dk_61 (dk_at dksX1_holdAll_1 4 rfl rfl)
theorem dX1_holdAll_27 : decode cX1_holdAll 27 = .ok (.iinc 3 1, 3) := dk_132 3 1 (dk_at dksX1_holdAll_1 5 rfl rfl)
theorem dX1_holdAll_30 : decode cX1_holdAll 30 = .ok (.goto (-26), 3) := dk_167 255 230 (dk_at dksX1_holdAll_1 8 rfl rfl)
theorem dX1_holdAll_33 : decode cX1_holdAll 33 = .ok (.iload_n 2, 1) := dk_28 (dk_at dksX1_holdAll_1 11 rfl rfl)
theorem dX1_holdAll_34 : decode cX1_holdAll 34 = .ok (.ireturn, 1) := dk_172 (dk_at dksX1_holdAll_1 12 rfl rfl)
abbrev cX1_order : ByteArray := prog_1_method_49_code
def yX1_order : MethodName := ⟨RX1, "order", "(Ljava/util/ArrayList;)V"⟩
def dkwX1_order_3 : List UInt8 := [182, 0, 251, 87, 132, 1, 1, 167, 255, 181, 177]
abbrev dktX1_order_3 : List UInt8 := dkwX1_order_3 ++ []
def dkwX1_order_2 : List UInt8 := [29, 42, 29, 4, 100, 182, 0, 9, 192, 0, 216, 182, 0, 251, 87, 132, 3, 255, 167, 255, 213, 42, 29, 44]
abbrev dktX1_order_2 : List UInt8 := dkwX1_order_2 ++ dktX1_order_3
def dkwX1_order_1 : List UInt8 := [158, 0, 45, 42, 29, 4, 100, 182, 0, 9, 192, 0, 216, 180, 0, 248, 44, 180, 0, 248, 164, 0, 25, 42]
abbrev dktX1_order_1 : List UInt8 := dkwX1_order_1 ++ dktX1_order_2
def dkwX1_order_0 : List UInt8 := [4, 60, 27, 42, 182, 0, 3, 162, 0, 73, 42, 27, 182, 0, 9, 192, 0, 216, 77, 27, 62, 29]
abbrev dktX1_order_0 : List UInt8 := dkwX1_order_0 ++ dktX1_order_1
theorem dksX1_order_0 : cX1_order.data.toList.drop 0 = dktX1_order_0 := by decide +kernel
theorem dksX1_order_1 : cX1_order.data.toList.drop 22 = dktX1_order_1 := dk_seg dksX1_order_0 22 rfl rfl
theorem dksX1_order_2 : cX1_order.data.toList.drop 46 = dktX1_order_2 := dk_seg dksX1_order_1 24 rfl rfl
theorem dksX1_order_3 : cX1_order.data.toList.drop 70 = dktX1_order_3 := dk_seg dksX1_order_2 24 rfl rfl
theorem dX1_order_0 : decode cX1_order 0 = .ok (.iconst 1, 1) := dk_4 (dk_at dksX1_order_0 0 rfl rfl)
theorem dX1_order_1 : decode cX1_order 1 = .ok (.istore_n 1, 1) := dk_60 (dk_at dksX1_order_0 1 rfl rfl)
theorem dX1_order_2 : decode cX1_order 2 = .ok (.iload_n 1, 1) := dk_27 (dk_at dksX1_order_0 2 rfl rfl)
theorem dX1_order_3 : decode cX1_order 3 = .ok (.aload_n 0, 1) := dk_42 (dk_at dksX1_order_0 3 rfl rfl)
theorem dX1_order_4 : decode cX1_order 4 = .ok (.invokevirtual 3, 3) := dk_182 0 3 (dk_at dksX1_order_0 4 rfl rfl)
theorem dX1_order_7 : decode cX1_order 7 = .ok (.if_icmp .ge 73, 3) := dk_162 0 73 (dk_at dksX1_order_0 7 rfl rfl)
theorem dX1_order_10 : decode cX1_order 10 = .ok (.aload_n 0, 1) := dk_42 (dk_at dksX1_order_0 10 rfl rfl)
theorem dX1_order_11 : decode cX1_order 11 = .ok (.iload_n 1, 1) := dk_27 (dk_at dksX1_order_0 11 rfl rfl)
theorem dX1_order_12 : decode cX1_order 12 = .ok (.invokevirtual 9, 3) := dk_182 0 9 (dk_at dksX1_order_0 12 rfl rfl)
theorem dX1_order_15 : decode cX1_order 15 = .ok (.checkcast 216, 3) := dk_192 0 216 (dk_at dksX1_order_0 15 rfl rfl)
theorem dX1_order_18 : decode cX1_order 18 = .ok (.astore_n 2, 1) := dk_77 (dk_at dksX1_order_0 18 rfl rfl)
theorem dX1_order_19 : decode cX1_order 19 = .ok (.iload_n 1, 1) := dk_27 (dk_at dksX1_order_0 19 rfl rfl)
theorem dX1_order_20 : decode cX1_order 20 = .ok (.istore_n 3, 1) := dk_62 (dk_at dksX1_order_0 20 rfl rfl)
theorem dX1_order_21 : decode cX1_order 21 = .ok (.iload_n 3, 1) := dk_29 (dk_at dksX1_order_0 21 rfl rfl)
theorem dX1_order_22 : decode cX1_order 22 = .ok (.ifCond .le 45, 3) := dk_158 0 45 (dk_at dksX1_order_1 0 rfl rfl)
theorem dX1_order_25 : decode cX1_order 25 = .ok (.aload_n 0, 1) := dk_42 (dk_at dksX1_order_1 3 rfl rfl)
theorem dX1_order_26 : decode cX1_order 26 = .ok (.iload_n 3, 1) := dk_29 (dk_at dksX1_order_1 4 rfl rfl)
theorem dX1_order_27 : decode cX1_order 27 = .ok (.iconst 1, 1) := dk_4 (dk_at dksX1_order_1 5 rfl rfl)
theorem dX1_order_28 : decode cX1_order 28 = .ok (.isub, 1) := dk_100 (dk_at dksX1_order_1 6 rfl rfl)
theorem dX1_order_29 : decode cX1_order 29 = .ok (.invokevirtual 9, 3) := dk_182 0 9 (dk_at dksX1_order_1 7 rfl rfl)
theorem dX1_order_32 : decode cX1_order 32 = .ok (.checkcast 216, 3) := dk_192 0 216 (dk_at dksX1_order_1 10 rfl rfl)
theorem dX1_order_35 : decode cX1_order 35 = .ok (.getfield 248, 3) := dk_180 0 248 (dk_at dksX1_order_1 13 rfl rfl)
theorem dX1_order_38 : decode cX1_order 38 = .ok (.aload_n 2, 1) := dk_44 (dk_at dksX1_order_1 16 rfl rfl)
theorem dX1_order_39 : decode cX1_order 39 = .ok (.getfield 248, 3) := dk_180 0 248 (dk_at dksX1_order_1 17 rfl rfl)
theorem dX1_order_42 : decode cX1_order 42 = .ok (.if_icmp .le 25, 3) := dk_164 0 25 (dk_at dksX1_order_1 20 rfl rfl)
theorem dX1_order_45 : decode cX1_order 45 = .ok (.aload_n 0, 1) := dk_42 (dk_at dksX1_order_1 23 rfl rfl)
theorem dX1_order_46 : decode cX1_order 46 = .ok (.iload_n 3, 1) := dk_29 (dk_at dksX1_order_2 0 rfl rfl)
theorem dX1_order_47 : decode cX1_order 47 = .ok (.aload_n 0, 1) := dk_42 (dk_at dksX1_order_2 1 rfl rfl)
theorem dX1_order_48 : decode cX1_order 48 = .ok (.iload_n 3, 1) := dk_29 (dk_at dksX1_order_2 2 rfl rfl)
theorem dX1_order_49 : decode cX1_order 49 = .ok (.iconst 1, 1) := dk_4 (dk_at dksX1_order_2 3 rfl rfl)
theorem dX1_order_50 : decode cX1_order 50 = .ok (.isub, 1) := dk_100 (dk_at dksX1_order_2 4 rfl rfl)
theorem dX1_order_51 : decode cX1_order 51 = .ok (.invokevirtual 9, 3) := dk_182 0 9 (dk_at dksX1_order_2 5 rfl rfl)
theorem dX1_order_54 : decode cX1_order 54 = .ok (.checkcast 216, 3) := dk_192 0 216 (dk_at dksX1_order_2 8 rfl rfl)
theorem dX1_order_57 : decode cX1_order 57 = .ok (.invokevirtual 251, 3) := dk_182 0 251 (dk_at dksX1_order_2 11 rfl rfl)
theorem dX1_order_60 : decode cX1_order 60 = .ok (.pop, 1) := dk_87 (dk_at dksX1_order_2 14 rfl rfl)
theorem dX1_order_61 : decode cX1_order 61 = .ok (.iinc 3 (-1), 3) := dk_132 3 255 (dk_at dksX1_order_2 15 rfl rfl)
theorem dX1_order_64 : decode cX1_order 64 = .ok (.goto (-43), 3) := dk_167 255 213 (dk_at dksX1_order_2 18 rfl rfl)
theorem dX1_order_67 : decode cX1_order 67 = .ok (.aload_n 0, 1) := dk_42 (dk_at dksX1_order_2 21 rfl rfl)
theorem dX1_order_68 : decode cX1_order 68 = .ok (.iload_n 3, 1) := dk_29 (dk_at dksX1_order_2 22 rfl rfl)
theorem dX1_order_69 : decode cX1_order 69 = .ok (.aload_n 2, 1) := dk_44 (dk_at dksX1_order_2 23 rfl rfl)
theorem dX1_order_70 : decode cX1_order 70 = .ok (.invokevirtual 251, 3) := dk_182 0 251 (dk_at dksX1_order_3 0 rfl rfl)
theorem dX1_order_73 : decode cX1_order 73 = .ok (.pop, 1) := dk_87 (dk_at dksX1_order_3 3 rfl rfl)
theorem dX1_order_74 : decode cX1_order 74 = .ok (.iinc 1 1, 3) := dk_132 1 1 (dk_at dksX1_order_3 4 rfl rfl)
theorem dX1_order_77 : decode cX1_order 77 = .ok (.goto (-75), 3) := dk_167 255 181 (dk_at dksX1_order_3 7 rfl rfl)
theorem dX1_order_80 : decode cX1_order 80 = .ok (.return_, 1) := dk_177 (dk_at dksX1_order_3 10 rfl rfl)
abbrev cX1_scan : ByteArray := prog_1_method_41_code
def yX1_scan : MethodName := ⟨RX1, "scan", "(LQueryHarbor$Seat;II)V"⟩
def dkwX1_scan_5 : List UInt8 := [180, 1, 124, 181, 1, 124, 167, 0, 10, 58, 4, 43, 4, 181, 1, 101, 177]
abbrev dktX1_scan_5 : List UInt8 := dkwX1_scan_5 ++ []
def dkwX1_scan_4 : List UInt8 := [180, 1, 94, 182, 1, 121, 153, 0, 13, 43, 180, 1, 104, 182, 0, 3, 167, 0, 10, 43, 180, 1, 85]
abbrev dktX1_scan_4 : List UInt8 := dkwX1_scan_4 ++ dktX1_scan_5
def dkwX1_scan_3 : List UInt8 := [43, 180, 1, 104, 42, 180, 0, 116, 42, 180, 0, 155, 183, 1, 118, 182, 0, 165, 87, 43, 180, 1, 85, 43]
abbrev dktX1_scan_3 : List UInt8 := dkwX1_scan_3 ++ dktX1_scan_4
def dkwX1_scan_2 : List UInt8 := [180, 0, 59, 3, 182, 0, 124, 87, 42, 180, 0, 59, 187, 0, 131, 89, 43, 180, 1, 85, 43, 180, 1, 94]
abbrev dktX1_scan_2 : List UInt8 := dkwX1_scan_2 ++ dktX1_scan_3
def dkwX1_scan_1 : List UInt8 := [182, 1, 114, 43, 180, 1, 101, 154, 0, 93, 42, 180, 0, 59, 182, 0, 3, 16, 6, 160, 0, 12, 42]
abbrev dktX1_scan_1 : List UInt8 := dkwX1_scan_1 ++ dktX1_scan_2
def dkwX1_scan_0 : List UInt8 := [43, 187, 0, 4, 89, 183, 0, 54, 181, 1, 104, 43, 3, 181, 1, 101, 42, 43, 2, 1, 3, 3, 28, 29]
abbrev dktX1_scan_0 : List UInt8 := dkwX1_scan_0 ++ dktX1_scan_1
theorem dksX1_scan_0 : cX1_scan.data.toList.drop 0 = dktX1_scan_0 := by decide +kernel
theorem dksX1_scan_1 : cX1_scan.data.toList.drop 24 = dktX1_scan_1 := dk_seg dksX1_scan_0 24 rfl rfl
theorem dksX1_scan_2 : cX1_scan.data.toList.drop 47 = dktX1_scan_2 := dk_seg dksX1_scan_1 23 rfl rfl
theorem dksX1_scan_3 : cX1_scan.data.toList.drop 71 = dktX1_scan_3 := dk_seg dksX1_scan_2 24 rfl rfl
theorem dksX1_scan_4 : cX1_scan.data.toList.drop 95 = dktX1_scan_4 := dk_seg dksX1_scan_3 24 rfl rfl
theorem dksX1_scan_5 : cX1_scan.data.toList.drop 118 = dktX1_scan_5 := dk_seg dksX1_scan_4 23 rfl rfl
theorem dX1_scan_0 : decode cX1_scan 0 = .ok (.aload_n 1, 1) := dk_43 (dk_at dksX1_scan_0 0 rfl rfl)
theorem dX1_scan_1 : decode cX1_scan 1 = .ok (.new 4, 3) := dk_187 0 4 (dk_at dksX1_scan_0 1 rfl rfl)
theorem dX1_scan_4 : decode cX1_scan 4 = .ok (.dup, 1) := dk_89 (dk_at dksX1_scan_0 4 rfl rfl)
theorem dX1_scan_5 : decode cX1_scan 5 = .ok (.invokespecial 54, 3) := dk_183 0 54 (dk_at dksX1_scan_0 5 rfl rfl)
theorem dX1_scan_8 : decode cX1_scan 8 = .ok (.putfield 360, 3) := dk_181 1 104 (dk_at dksX1_scan_0 8 rfl rfl)
theorem dX1_scan_11 : decode cX1_scan 11 = .ok (.aload_n 1, 1) := dk_43 (dk_at dksX1_scan_0 11 rfl rfl)
theorem dX1_scan_12 : decode cX1_scan 12 = .ok (.iconst 0, 1) := dk_3 (dk_at dksX1_scan_0 12 rfl rfl)
theorem dX1_scan_13 : decode cX1_scan 13 = .ok (.putfield 357, 3) := dk_181 1 101 (dk_at dksX1_scan_0 13 rfl rfl)
theorem dX1_scan_16 : decode cX1_scan 16 = .ok (.aload_n 0, 1) := dk_42 (dk_at dksX1_scan_0 16 rfl rfl)
theorem dX1_scan_17 : decode cX1_scan 17 = .ok (.aload_n 1, 1) := dk_43 (dk_at dksX1_scan_0 17 rfl rfl)
theorem dX1_scan_18 : decode cX1_scan 18 = .ok (.iconst (-1), 1) := dk_2 (dk_at dksX1_scan_0 18 rfl rfl)
theorem dX1_scan_19 : decode cX1_scan 19 = .ok (.aconst_null, 1) := dk_1 (dk_at dksX1_scan_0 19 rfl rfl)
theorem dX1_scan_20 : decode cX1_scan 20 = .ok (.iconst 0, 1) := dk_3 (dk_at dksX1_scan_0 20 rfl rfl)
theorem dX1_scan_21 : decode cX1_scan 21 = .ok (.iconst 0, 1) := dk_3 (dk_at dksX1_scan_0 21 rfl rfl)
theorem dX1_scan_22 : decode cX1_scan 22 = .ok (.iload_n 2, 1) := dk_28 (dk_at dksX1_scan_0 22 rfl rfl)
theorem dX1_scan_23 : decode cX1_scan 23 = .ok (.iload_n 3, 1) := dk_29 (dk_at dksX1_scan_0 23 rfl rfl)
theorem dX1_scan_24 : decode cX1_scan 24 = .ok (.invokevirtual 370, 3) := dk_182 1 114 (dk_at dksX1_scan_1 0 rfl rfl)
theorem dX1_scan_27 : decode cX1_scan 27 = .ok (.aload_n 1, 1) := dk_43 (dk_at dksX1_scan_1 3 rfl rfl)
theorem dX1_scan_28 : decode cX1_scan 28 = .ok (.getfield 357, 3) := dk_180 1 101 (dk_at dksX1_scan_1 4 rfl rfl)
theorem dX1_scan_31 : decode cX1_scan 31 = .ok (.ifCond .ne 93, 3) := dk_154 0 93 (dk_at dksX1_scan_1 7 rfl rfl)
theorem dX1_scan_34 : decode cX1_scan 34 = .ok (.aload_n 0, 1) := dk_42 (dk_at dksX1_scan_1 10 rfl rfl)
theorem dX1_scan_35 : decode cX1_scan 35 = .ok (.getfield 59, 3) := dk_180 0 59 (dk_at dksX1_scan_1 11 rfl rfl)
theorem dX1_scan_38 : decode cX1_scan 38 = .ok (.invokevirtual 3, 3) := dk_182 0 3 (dk_at dksX1_scan_1 14 rfl rfl)
theorem dX1_scan_41 : decode cX1_scan 41 = .ok (.bipush 6, 2) := dk_16 6 (dk_at dksX1_scan_1 17 rfl rfl)
theorem dX1_scan_43 : decode cX1_scan 43 = .ok (.if_icmp .ne 12, 3) := dk_160 0 12 (dk_at dksX1_scan_1 19 rfl rfl)
theorem dX1_scan_46 : decode cX1_scan 46 = .ok (.aload_n 0, 1) := dk_42 (dk_at dksX1_scan_1 22 rfl rfl)
theorem dX1_scan_47 : decode cX1_scan 47 = .ok (.getfield 59, 3) := dk_180 0 59 (dk_at dksX1_scan_2 0 rfl rfl)
theorem dX1_scan_50 : decode cX1_scan 50 = .ok (.iconst 0, 1) := dk_3 (dk_at dksX1_scan_2 3 rfl rfl)
theorem dX1_scan_51 : decode cX1_scan 51 = .ok (.invokevirtual 124, 3) := dk_182 0 124 (dk_at dksX1_scan_2 4 rfl rfl)
theorem dX1_scan_54 : decode cX1_scan 54 = .ok (.pop, 1) := dk_87 (dk_at dksX1_scan_2 7 rfl rfl)
theorem dX1_scan_55 : decode cX1_scan 55 = .ok (.aload_n 0, 1) := dk_42 (dk_at dksX1_scan_2 8 rfl rfl)
theorem dX1_scan_56 : decode cX1_scan 56 = .ok (.getfield 59, 3) := dk_180 0 59 (dk_at dksX1_scan_2 9 rfl rfl)
theorem dX1_scan_59 : decode cX1_scan 59 = .ok (.new 131, 3) := dk_187 0 131 (dk_at dksX1_scan_2 12 rfl rfl)
theorem dX1_scan_62 : decode cX1_scan 62 = .ok (.dup, 1) := dk_89 (dk_at dksX1_scan_2 15 rfl rfl)
theorem dX1_scan_63 : decode cX1_scan 63 = .ok (.aload_n 1, 1) := dk_43 (dk_at dksX1_scan_2 16 rfl rfl)
theorem dX1_scan_64 : decode cX1_scan 64 = .ok (.getfield 341, 3) := dk_180 1 85 (dk_at dksX1_scan_2 17 rfl rfl)
theorem dX1_scan_67 : decode cX1_scan 67 = .ok (.aload_n 1, 1) := dk_43 (dk_at dksX1_scan_2 20 rfl rfl)
theorem dX1_scan_68 : decode cX1_scan 68 = .ok (.getfield 350, 3) := dk_180 1 94 (dk_at dksX1_scan_2 21 rfl rfl)
theorem dX1_scan_71 : decode cX1_scan 71 = .ok (.aload_n 1, 1) := dk_43 (dk_at dksX1_scan_3 0 rfl rfl)
theorem dX1_scan_72 : decode cX1_scan 72 = .ok (.getfield 360, 3) := dk_180 1 104 (dk_at dksX1_scan_3 1 rfl rfl)
theorem dX1_scan_75 : decode cX1_scan 75 = .ok (.aload_n 0, 1) := dk_42 (dk_at dksX1_scan_3 4 rfl rfl)
theorem dX1_scan_76 : decode cX1_scan 76 = .ok (.getfield 116, 3) := dk_180 0 116 (dk_at dksX1_scan_3 5 rfl rfl)
theorem dX1_scan_79 : decode cX1_scan 79 = .ok (.aload_n 0, 1) := dk_42 (dk_at dksX1_scan_3 8 rfl rfl)
theorem dX1_scan_80 : decode cX1_scan 80 = .ok (.getfield 155, 3) := dk_180 0 155 (dk_at dksX1_scan_3 9 rfl rfl)
theorem dX1_scan_83 : decode cX1_scan 83 = .ok (.invokespecial 374, 3) := dk_183 1 118 (dk_at dksX1_scan_3 12 rfl rfl)
theorem dX1_scan_86 : decode cX1_scan 86 = .ok (.invokevirtual 165, 3) := dk_182 0 165 (dk_at dksX1_scan_3 15 rfl rfl)
theorem dX1_scan_89 : decode cX1_scan 89 = .ok (.pop, 1) := dk_87 (dk_at dksX1_scan_3 18 rfl rfl)
theorem dX1_scan_90 : decode cX1_scan 90 = .ok (.aload_n 1, 1) := dk_43 (dk_at dksX1_scan_3 19 rfl rfl)
theorem dX1_scan_91 : decode cX1_scan 91 = .ok (.getfield 341, 3) := dk_180 1 85 (dk_at dksX1_scan_3 20 rfl rfl)
theorem dX1_scan_94 : decode cX1_scan 94 = .ok (.aload_n 1, 1) := dk_43 (dk_at dksX1_scan_3 23 rfl rfl)
theorem dX1_scan_95 : decode cX1_scan 95 = .ok (.getfield 350, 3) := dk_180 1 94 (dk_at dksX1_scan_4 0 rfl rfl)
theorem dX1_scan_98 : decode cX1_scan 98 = .ok (.invokevirtual 377, 3) := dk_182 1 121 (dk_at dksX1_scan_4 3 rfl rfl)
theorem dX1_scan_101 : decode cX1_scan 101 = .ok (.ifCond .eq 13, 3) := dk_153 0 13 (dk_at dksX1_scan_4 6 rfl rfl)
theorem dX1_scan_104 : decode cX1_scan 104 = .ok (.aload_n 1, 1) := dk_43 (dk_at dksX1_scan_4 9 rfl rfl)
theorem dX1_scan_105 : decode cX1_scan 105 = .ok (.getfield 360, 3) := dk_180 1 104 (dk_at dksX1_scan_4 10 rfl rfl)
theorem dX1_scan_108 : decode cX1_scan 108 = .ok (.invokevirtual 3, 3) := dk_182 0 3 (dk_at dksX1_scan_4 13 rfl rfl)
theorem dX1_scan_111 : decode cX1_scan 111 = .ok (.goto 10, 3) := dk_167 0 10 (dk_at dksX1_scan_4 16 rfl rfl)
theorem dX1_scan_114 : decode cX1_scan 114 = .ok (.aload_n 1, 1) := dk_43 (dk_at dksX1_scan_4 19 rfl rfl)
theorem dX1_scan_115 : decode cX1_scan 115 = .ok (.getfield 341, 3) := dk_180 1 85 (dk_at dksX1_scan_4 20 rfl rfl)
theorem dX1_scan_118 : decode cX1_scan 118 = .ok (.getfield 380, 3) := dk_180 1 124 (dk_at dksX1_scan_5 0 rfl rfl)
theorem dX1_scan_121 : decode cX1_scan 121 = .ok (.putfield 380, 3) := dk_181 1 124 (dk_at dksX1_scan_5 3 rfl rfl)
theorem dX1_scan_124 : decode cX1_scan 124 = .ok (.goto 10, 3) := dk_167 0 10 (dk_at dksX1_scan_5 6 rfl rfl)
theorem dX1_scan_127 : decode cX1_scan 127 = .ok (.astore 4, 2) := dk_58 4 (dk_at dksX1_scan_5 9 rfl rfl)
theorem dX1_scan_129 : decode cX1_scan 129 = .ok (.aload_n 1, 1) := dk_43 (dk_at dksX1_scan_5 11 rfl rfl)
theorem dX1_scan_130 : decode cX1_scan 130 = .ok (.iconst 1, 1) := dk_4 (dk_at dksX1_scan_5 12 rfl rfl)
theorem dX1_scan_131 : decode cX1_scan 131 = .ok (.putfield 357, 3) := dk_181 1 101 (dk_at dksX1_scan_5 13 rfl rfl)
theorem dX1_scan_134 : decode cX1_scan 134 = .ok (.return_, 1) := dk_177 (dk_at dksX1_scan_5 16 rfl rfl)
abbrev cX1_walk : ByteArray := prog_1_method_50_code
def yX1_walk : MethodName := ⟨RX1, "walk", "(Ljava/util/ArrayList;LQueryHarbor$Answer;)V"⟩
def dkwX1_walk_0 : List UInt8 := [6, 189, 0, 216, 78, 42, 43, 45, 3, 44, 182, 1, 199, 177]
abbrev dktX1_walk_0 : List UInt8 := dkwX1_walk_0 ++ []
theorem dksX1_walk_0 : cX1_walk.data.toList.drop 0 = dktX1_walk_0 := by decide +kernel
theorem dX1_walk_0 : decode cX1_walk 0 = .ok (.iconst 3, 1) := dk_6 (dk_at dksX1_walk_0 0 rfl rfl)
theorem dX1_walk_1 : decode cX1_walk 1 = .ok (.anewarray 216, 3) := dk_189 0 216 (dk_at dksX1_walk_0 1 rfl rfl)
theorem dX1_walk_4 : decode cX1_walk 4 = .ok (.astore_n 3, 1) := dk_78 (dk_at dksX1_walk_0 4 rfl rfl)
theorem dX1_walk_5 : decode cX1_walk 5 = .ok (.aload_n 0, 1) := dk_42 (dk_at dksX1_walk_0 5 rfl rfl)
theorem dX1_walk_6 : decode cX1_walk 6 = .ok (.aload_n 1, 1) := dk_43 (dk_at dksX1_walk_0 6 rfl rfl)
theorem dX1_walk_7 : decode cX1_walk 7 = .ok (.aload_n 3, 1) := dk_45 (dk_at dksX1_walk_0 7 rfl rfl)
theorem dX1_walk_8 : decode cX1_walk 8 = .ok (.iconst 0, 1) := dk_3 (dk_at dksX1_walk_0 8 rfl rfl)
theorem dX1_walk_9 : decode cX1_walk 9 = .ok (.aload_n 2, 1) := dk_44 (dk_at dksX1_walk_0 9 rfl rfl)
theorem dX1_walk_10 : decode cX1_walk 10 = .ok (.invokevirtual 455, 3) := dk_182 1 199 (dk_at dksX1_walk_0 10 rfl rfl)
theorem dX1_walk_13 : decode cX1_walk 13 = .ok (.return_, 1) := dk_177 (dk_at dksX1_walk_0 13 rfl rfl)
abbrev cX1_step : ByteArray := prog_1_method_51_code
def yX1_step : MethodName := ⟨RX1, "step", "(Ljava/util/ArrayList;[LQueryHarbor$Row;ILQueryHarbor$Answer;)V"⟩
def dkwX1_step_3 : List UInt8 := [182, 1, 199, 132, 5, 1, 167, 255, 198, 177]
abbrev dktX1_step_3 : List UInt8 := dkwX1_step_3 ++ []
def dkwX1_step_2 : List UInt8 := [182, 0, 9, 192, 0, 216, 83, 42, 44, 29, 182, 1, 207, 153, 0, 14, 42, 43, 44, 29, 4, 96, 25, 4]
abbrev dktX1_step_2 : List UInt8 := dkwX1_step_2 ++ dktX1_step_3
def dkwX1_step_1 : List UInt8 := [182, 0, 9, 192, 0, 4, 182, 0, 3, 162, 0, 48, 44, 29, 43, 29, 182, 0, 9, 192, 0, 4, 21, 5]
abbrev dktX1_step_1 : List UInt8 := dkwX1_step_1 ++ dktX1_step_2
def dkwX1_step_0 : List UInt8 := [29, 43, 182, 0, 3, 160, 0, 11, 42, 44, 25, 4, 182, 1, 203, 177, 3, 54, 5, 21, 5, 43, 29]
abbrev dktX1_step_0 : List UInt8 := dkwX1_step_0 ++ dktX1_step_1
theorem dksX1_step_0 : cX1_step.data.toList.drop 0 = dktX1_step_0 := by decide +kernel
theorem dksX1_step_1 : cX1_step.data.toList.drop 23 = dktX1_step_1 := dk_seg dksX1_step_0 23 rfl rfl
theorem dksX1_step_2 : cX1_step.data.toList.drop 47 = dktX1_step_2 := dk_seg dksX1_step_1 24 rfl rfl
theorem dksX1_step_3 : cX1_step.data.toList.drop 71 = dktX1_step_3 := dk_seg dksX1_step_2 24 rfl rfl
theorem dX1_step_0 : decode cX1_step 0 = .ok (.iload_n 3, 1) := dk_29 (dk_at dksX1_step_0 0 rfl rfl)
theorem dX1_step_1 : decode cX1_step 1 = .ok (.aload_n 1, 1) := dk_43 (dk_at dksX1_step_0 1 rfl rfl)
theorem dX1_step_2 : decode cX1_step 2 = .ok (.invokevirtual 3, 3) := dk_182 0 3 (dk_at dksX1_step_0 2 rfl rfl)
theorem dX1_step_5 : decode cX1_step 5 = .ok (.if_icmp .ne 11, 3) := dk_160 0 11 (dk_at dksX1_step_0 5 rfl rfl)
theorem dX1_step_8 : decode cX1_step 8 = .ok (.aload_n 0, 1) := dk_42 (dk_at dksX1_step_0 8 rfl rfl)
theorem dX1_step_9 : decode cX1_step 9 = .ok (.aload_n 2, 1) := dk_44 (dk_at dksX1_step_0 9 rfl rfl)
theorem dX1_step_10 : decode cX1_step 10 = .ok (.aload 4, 2) := dk_25 4 (dk_at dksX1_step_0 10 rfl rfl)
theorem dX1_step_12 : decode cX1_step 12 = .ok (.invokevirtual 459, 3) := dk_182 1 203 (dk_at dksX1_step_0 12 rfl rfl)
theorem dX1_step_15 : decode cX1_step 15 = .ok (.return_, 1) := dk_177 (dk_at dksX1_step_0 15 rfl rfl)
theorem dX1_step_16 : decode cX1_step 16 = .ok (.iconst 0, 1) := dk_3 (dk_at dksX1_step_0 16 rfl rfl)
theorem dX1_step_17 : decode cX1_step 17 = .ok (.istore 5, 2) := dk_54 5 (dk_at dksX1_step_0 17 rfl rfl)
theorem dX1_step_19 : decode cX1_step 19 = .ok (.iload 5, 2) := dk_21 5 (dk_at dksX1_step_0 19 rfl rfl)
theorem dX1_step_21 : decode cX1_step 21 = .ok (.aload_n 1, 1) := dk_43 (dk_at dksX1_step_0 21 rfl rfl)
theorem dX1_step_22 : decode cX1_step 22 = .ok (.iload_n 3, 1) := dk_29 (dk_at dksX1_step_0 22 rfl rfl)
theorem dX1_step_23 : decode cX1_step 23 = .ok (.invokevirtual 9, 3) := dk_182 0 9 (dk_at dksX1_step_1 0 rfl rfl)
theorem dX1_step_26 : decode cX1_step 26 = .ok (.checkcast 4, 3) := dk_192 0 4 (dk_at dksX1_step_1 3 rfl rfl)
theorem dX1_step_29 : decode cX1_step 29 = .ok (.invokevirtual 3, 3) := dk_182 0 3 (dk_at dksX1_step_1 6 rfl rfl)
theorem dX1_step_32 : decode cX1_step 32 = .ok (.if_icmp .ge 48, 3) := dk_162 0 48 (dk_at dksX1_step_1 9 rfl rfl)
theorem dX1_step_35 : decode cX1_step 35 = .ok (.aload_n 2, 1) := dk_44 (dk_at dksX1_step_1 12 rfl rfl)
theorem dX1_step_36 : decode cX1_step 36 = .ok (.iload_n 3, 1) := dk_29 (dk_at dksX1_step_1 13 rfl rfl)
theorem dX1_step_37 : decode cX1_step 37 = .ok (.aload_n 1, 1) := dk_43 (dk_at dksX1_step_1 14 rfl rfl)
theorem dX1_step_38 : decode cX1_step 38 = .ok (.iload_n 3, 1) := dk_29 (dk_at dksX1_step_1 15 rfl rfl)
theorem dX1_step_39 : decode cX1_step 39 = .ok (.invokevirtual 9, 3) := dk_182 0 9 (dk_at dksX1_step_1 16 rfl rfl)
theorem dX1_step_42 : decode cX1_step 42 = .ok (.checkcast 4, 3) := dk_192 0 4 (dk_at dksX1_step_1 19 rfl rfl)
theorem dX1_step_45 : decode cX1_step 45 = .ok (.iload 5, 2) := dk_21 5 (dk_at dksX1_step_1 22 rfl rfl)
theorem dX1_step_47 : decode cX1_step 47 = .ok (.invokevirtual 9, 3) := dk_182 0 9 (dk_at dksX1_step_2 0 rfl rfl)
theorem dX1_step_50 : decode cX1_step 50 = .ok (.checkcast 216, 3) := dk_192 0 216 (dk_at dksX1_step_2 3 rfl rfl)
theorem dX1_step_53 : decode cX1_step 53 = .ok (.aastore, 1) := dk_83 (dk_at dksX1_step_2 6 rfl rfl)
theorem dX1_step_54 : decode cX1_step 54 = .ok (.aload_n 0, 1) := dk_42 (dk_at dksX1_step_2 7 rfl rfl)
theorem dX1_step_55 : decode cX1_step 55 = .ok (.aload_n 2, 1) := dk_44 (dk_at dksX1_step_2 8 rfl rfl)
theorem dX1_step_56 : decode cX1_step 56 = .ok (.iload_n 3, 1) := dk_29 (dk_at dksX1_step_2 9 rfl rfl)
theorem dX1_step_57 : decode cX1_step 57 = .ok (.invokevirtual 463, 3) := dk_182 1 207 (dk_at dksX1_step_2 10 rfl rfl)
theorem dX1_step_60 : decode cX1_step 60 = .ok (.ifCond .eq 14, 3) := dk_153 0 14 (dk_at dksX1_step_2 13 rfl rfl)
theorem dX1_step_63 : decode cX1_step 63 = .ok (.aload_n 0, 1) := dk_42 (dk_at dksX1_step_2 16 rfl rfl)
theorem dX1_step_64 : decode cX1_step 64 = .ok (.aload_n 1, 1) := dk_43 (dk_at dksX1_step_2 17 rfl rfl)
theorem dX1_step_65 : decode cX1_step 65 = .ok (.aload_n 2, 1) := dk_44 (dk_at dksX1_step_2 18 rfl rfl)
theorem dX1_step_66 : decode cX1_step 66 = .ok (.iload_n 3, 1) := dk_29 (dk_at dksX1_step_2 19 rfl rfl)
theorem dX1_step_67 : decode cX1_step 67 = .ok (.iconst 1, 1) := dk_4 (dk_at dksX1_step_2 20 rfl rfl)
theorem dX1_step_68 : decode cX1_step 68 = .ok (.iadd, 1) := dk_96 (dk_at dksX1_step_2 21 rfl rfl)
theorem dX1_step_69 : decode cX1_step 69 = .ok (.aload 4, 2) := dk_25 4 (dk_at dksX1_step_2 22 rfl rfl)
theorem dX1_step_71 : decode cX1_step 71 = .ok (.invokevirtual 455, 3) := dk_182 1 199 (dk_at dksX1_step_3 0 rfl rfl)
theorem dX1_step_74 : decode cX1_step 74 = .ok (.iinc 5 1, 3) := dk_132 5 1 (dk_at dksX1_step_3 3 rfl rfl)
theorem dX1_step_77 : decode cX1_step 77 = .ok (.goto (-58), 3) := dk_167 255 198 (dk_at dksX1_step_3 6 rfl rfl)
theorem dX1_step_80 : decode cX1_step 80 = .ok (.return_, 1) := dk_177 (dk_at dksX1_step_3 9 rfl rfl)
abbrev cX1_tell : ByteArray := prog_1_method_53_code
def yX1_tell : MethodName := ⟨RX1, "tell", "([LQueryHarbor$Row;LQueryHarbor$Answer;)V"⟩
def dkwX1_tell_13 : List UInt8 := [5, 92, 46, 21, 5, 184, 1, 37, 153, 0, 8, 21, 5, 167, 0, 4, 3, 96, 79, 177]
abbrev dktX1_tell_13 : List UInt8 := dkwX1_tell_13 ++ []
def dkwX1_tell_12 : List UInt8 := [182, 0, 9, 192, 1, 219, 4, 92, 46, 4, 96, 79, 44, 180, 1, 218, 21, 6, 182, 0, 9, 192, 1, 219]
abbrev dktX1_tell_12 : List UInt8 := dkwX1_tell_12 ++ dktX1_tell_13
def dkwX1_tell_11 : List UInt8 := [6, 188, 10, 89, 3, 29, 79, 89, 4, 3, 79, 89, 5, 3, 79, 182, 1, 149, 44, 180, 1, 218, 21, 6]
abbrev dktX1_tell_11 : List UInt8 := dkwX1_tell_11 ++ dktX1_tell_12
def dkwX1_tell_10 : List UInt8 := [44, 180, 1, 218, 21, 6, 182, 0, 9, 192, 1, 219, 3, 46, 29, 159, 0, 27, 44, 180, 1, 218, 21, 6]
abbrev dktX1_tell_10 : List UInt8 := dkwX1_tell_10 ++ dktX1_tell_11
def dkwX1_tell_9 : List UInt8 := [184, 1, 220, 162, 0, 9, 132, 6, 1, 167, 255, 217, 21, 6, 44, 180, 1, 218, 182, 0, 3, 159, 0, 21]
abbrev dktX1_tell_9 : List UInt8 := dkwX1_tell_9 ++ dktX1_tell_10
def dkwX1_tell_8 : List UInt8 := [182, 0, 3, 162, 0, 33, 44, 180, 1, 218, 21, 6, 182, 0, 9, 192, 1, 219, 3, 46, 184, 1, 220, 29]
abbrev dktX1_tell_8 : List UInt8 := dkwX1_tell_8 ++ dktX1_tell_9
def dkwX1_tell_7 : List UInt8 := [180, 1, 214, 50, 180, 0, 244, 25, 4, 180, 1, 215, 46, 54, 5, 3, 54, 6, 21, 6, 44, 180, 1, 218]
abbrev dktX1_tell_7 : List UInt8 := dkwX1_tell_7 ++ dktX1_tell_8
def dkwX1_tell_6 : List UInt8 := [180, 0, 71, 42, 180, 0, 71, 182, 0, 3, 4, 100, 182, 0, 9, 192, 1, 42, 58, 4, 43, 25, 4]
abbrev dktX1_tell_6 : List UInt8 := dkwX1_tell_6 ++ dktX1_tell_7
def dkwX1_tell_5 : List UInt8 := [180, 1, 215, 46, 79, 132, 5, 1, 167, 255, 204, 44, 180, 1, 218, 25, 4, 182, 0, 165, 87, 177, 42]
abbrev dktX1_tell_5 : List UInt8 := dkwX1_tell_5 ++ dktX1_tell_6
def dkwX1_tell_4 : List UInt8 := [192, 1, 42, 180, 1, 214, 50, 180, 0, 244, 42, 180, 0, 71, 21, 5, 182, 0, 9, 192, 1, 42]
abbrev dktX1_tell_4 : List UInt8 := dkwX1_tell_4 ++ dktX1_tell_5
def dkwX1_tell_3 : List UInt8 := [21, 5, 25, 4, 190, 162, 0, 50, 25, 4, 21, 5, 43, 42, 180, 0, 71, 21, 5, 182, 0, 9]
abbrev dktX1_tell_3 : List UInt8 := dkwX1_tell_3 ++ dktX1_tell_4
def dkwX1_tell_2 : List UInt8 := [182, 0, 3, 42, 180, 0, 77, 162, 0, 82, 42, 180, 0, 71, 182, 0, 3, 188, 10, 58, 4, 3, 54, 5]
abbrev dktX1_tell_2 : List UInt8 := dkwX1_tell_2 ++ dktX1_tell_3
def dkwX1_tell_1 : List UInt8 := [182, 0, 9, 192, 1, 42, 180, 1, 215, 46, 62, 42, 180, 1, 46, 154, 0, 97, 44, 180, 1, 218]
abbrev dktX1_tell_1 : List UInt8 := dkwX1_tell_1 ++ dktX1_tell_2
def dkwX1_tell_0 : List UInt8 := [43, 42, 180, 0, 71, 3, 182, 0, 9, 192, 1, 42, 180, 1, 214, 50, 180, 0, 244, 42, 180, 0, 71, 3]
abbrev dktX1_tell_0 : List UInt8 := dkwX1_tell_0 ++ dktX1_tell_1
theorem dksX1_tell_0 : cX1_tell.data.toList.drop 0 = dktX1_tell_0 := by decide +kernel
theorem dksX1_tell_1 : cX1_tell.data.toList.drop 24 = dktX1_tell_1 := dk_seg dksX1_tell_0 24 rfl rfl
theorem dksX1_tell_2 : cX1_tell.data.toList.drop 46 = dktX1_tell_2 := dk_seg dksX1_tell_1 22 rfl rfl
theorem dksX1_tell_3 : cX1_tell.data.toList.drop 70 = dktX1_tell_3 := dk_seg dksX1_tell_2 24 rfl rfl
theorem dksX1_tell_4 : cX1_tell.data.toList.drop 92 = dktX1_tell_4 := dk_seg dksX1_tell_3 22 rfl rfl
theorem dksX1_tell_5 : cX1_tell.data.toList.drop 114 = dktX1_tell_5 := dk_seg dksX1_tell_4 22 rfl rfl
theorem dksX1_tell_6 : cX1_tell.data.toList.drop 137 = dktX1_tell_6 := dk_seg dksX1_tell_5 23 rfl rfl
theorem dksX1_tell_7 : cX1_tell.data.toList.drop 160 = dktX1_tell_7 := dk_seg dksX1_tell_6 23 rfl rfl
theorem dksX1_tell_8 : cX1_tell.data.toList.drop 184 = dktX1_tell_8 := dk_seg dksX1_tell_7 24 rfl rfl
theorem dksX1_tell_9 : cX1_tell.data.toList.drop 208 = dktX1_tell_9 := dk_seg dksX1_tell_8 24 rfl rfl
theorem dksX1_tell_10 : cX1_tell.data.toList.drop 232 = dktX1_tell_10 := dk_seg dksX1_tell_9 24 rfl rfl
theorem dksX1_tell_11 : cX1_tell.data.toList.drop 256 = dktX1_tell_11 := dk_seg dksX1_tell_10 24 rfl rfl
theorem dksX1_tell_12 : cX1_tell.data.toList.drop 280 = dktX1_tell_12 := dk_seg dksX1_tell_11 24 rfl rfl
theorem dksX1_tell_13 : cX1_tell.data.toList.drop 304 = dktX1_tell_13 := dk_seg dksX1_tell_12 24 rfl rfl
theorem dX1_tell_0 : decode cX1_tell 0 = .ok (.aload_n 1, 1) := dk_43 (dk_at dksX1_tell_0 0 rfl rfl)
theorem dX1_tell_1 : decode cX1_tell 1 = .ok (.aload_n 0, 1) := dk_42 (dk_at dksX1_tell_0 1 rfl rfl)
theorem dX1_tell_2 : decode cX1_tell 2 = .ok (.getfield 71, 3) := dk_180 0 71 (dk_at dksX1_tell_0 2 rfl rfl)
theorem dX1_tell_5 : decode cX1_tell 5 = .ok (.iconst 0, 1) := dk_3 (dk_at dksX1_tell_0 5 rfl rfl)
theorem dX1_tell_6 : decode cX1_tell 6 = .ok (.invokevirtual 9, 3) := dk_182 0 9 (dk_at dksX1_tell_0 6 rfl rfl)
theorem dX1_tell_9 : decode cX1_tell 9 = .ok (.checkcast 298, 3) := dk_192 1 42 (dk_at dksX1_tell_0 9 rfl rfl)
theorem dX1_tell_12 : decode cX1_tell 12 = .ok (.getfield 470, 3) := dk_180 1 214 (dk_at dksX1_tell_0 12 rfl rfl)
theorem dX1_tell_15 : decode cX1_tell 15 = .ok (.aaload, 1) := dk_50 (dk_at dksX1_tell_0 15 rfl rfl)
theorem dX1_tell_16 : decode cX1_tell 16 = .ok (.getfield 244, 3) := dk_180 0 244 (dk_at dksX1_tell_0 16 rfl rfl)
theorem dX1_tell_19 : decode cX1_tell 19 = .ok (.aload_n 0, 1) := dk_42 (dk_at dksX1_tell_0 19 rfl rfl)
theorem dX1_tell_20 : decode cX1_tell 20 = .ok (.getfield 71, 3) := dk_180 0 71 (dk_at dksX1_tell_0 20 rfl rfl)
theorem dX1_tell_23 : decode cX1_tell 23 = .ok (.iconst 0, 1) := dk_3 (dk_at dksX1_tell_0 23 rfl rfl)
theorem dX1_tell_24 : decode cX1_tell 24 = .ok (.invokevirtual 9, 3) := dk_182 0 9 (dk_at dksX1_tell_1 0 rfl rfl)
theorem dX1_tell_27 : decode cX1_tell 27 = .ok (.checkcast 298, 3) := dk_192 1 42 (dk_at dksX1_tell_1 3 rfl rfl)
theorem dX1_tell_30 : decode cX1_tell 30 = .ok (.getfield 471, 3) := dk_180 1 215 (dk_at dksX1_tell_1 6 rfl rfl)
theorem dX1_tell_33 : decode cX1_tell 33 = .ok (.iaload, 1) := dk_46 (dk_at dksX1_tell_1 9 rfl rfl)
theorem dX1_tell_34 : decode cX1_tell 34 = .ok (.istore_n 3, 1) := dk_62 (dk_at dksX1_tell_1 10 rfl rfl)
theorem dX1_tell_35 : decode cX1_tell 35 = .ok (.aload_n 0, 1) := dk_42 (dk_at dksX1_tell_1 11 rfl rfl)
theorem dX1_tell_36 : decode cX1_tell 36 = .ok (.getfield 302, 3) := dk_180 1 46 (dk_at dksX1_tell_1 12 rfl rfl)
theorem dX1_tell_39 : decode cX1_tell 39 = .ok (.ifCond .ne 97, 3) := dk_154 0 97 (dk_at dksX1_tell_1 15 rfl rfl)
theorem dX1_tell_42 : decode cX1_tell 42 = .ok (.aload_n 2, 1) := dk_44 (dk_at dksX1_tell_1 18 rfl rfl)
theorem dX1_tell_43 : decode cX1_tell 43 = .ok (.getfield 474, 3) := dk_180 1 218 (dk_at dksX1_tell_1 19 rfl rfl)
theorem dX1_tell_46 : decode cX1_tell 46 = .ok (.invokevirtual 3, 3) := dk_182 0 3 (dk_at dksX1_tell_2 0 rfl rfl)
theorem dX1_tell_49 : decode cX1_tell 49 = .ok (.aload_n 0, 1) := dk_42 (dk_at dksX1_tell_2 3 rfl rfl)
theorem dX1_tell_50 : decode cX1_tell 50 = .ok (.getfield 77, 3) := dk_180 0 77 (dk_at dksX1_tell_2 4 rfl rfl)
theorem dX1_tell_53 : decode cX1_tell 53 = .ok (.if_icmp .ge 82, 3) := dk_162 0 82 (dk_at dksX1_tell_2 7 rfl rfl)
theorem dX1_tell_56 : decode cX1_tell 56 = .ok (.aload_n 0, 1) := dk_42 (dk_at dksX1_tell_2 10 rfl rfl)
theorem dX1_tell_57 : decode cX1_tell 57 = .ok (.getfield 71, 3) := dk_180 0 71 (dk_at dksX1_tell_2 11 rfl rfl)
theorem dX1_tell_60 : decode cX1_tell 60 = .ok (.invokevirtual 3, 3) := dk_182 0 3 (dk_at dksX1_tell_2 14 rfl rfl)
theorem dX1_tell_63 : decode cX1_tell 63 = .ok (.newarray .int, 2) := dk_188_10 (dk_at dksX1_tell_2 17 rfl rfl)
theorem dX1_tell_65 : decode cX1_tell 65 = .ok (.astore 4, 2) := dk_58 4 (dk_at dksX1_tell_2 19 rfl rfl)
theorem dX1_tell_67 : decode cX1_tell 67 = .ok (.iconst 0, 1) := dk_3 (dk_at dksX1_tell_2 21 rfl rfl)
theorem dX1_tell_68 : decode cX1_tell 68 = .ok (.istore 5, 2) := dk_54 5 (dk_at dksX1_tell_2 22 rfl rfl)
theorem dX1_tell_70 : decode cX1_tell 70 = .ok (.iload 5, 2) := dk_21 5 (dk_at dksX1_tell_3 0 rfl rfl)
theorem dX1_tell_72 : decode cX1_tell 72 = .ok (.aload 4, 2) := dk_25 4 (dk_at dksX1_tell_3 2 rfl rfl)
theorem dX1_tell_74 : decode cX1_tell 74 = .ok (.arraylength, 1) := dk_190 (dk_at dksX1_tell_3 4 rfl rfl)
theorem dX1_tell_75 : decode cX1_tell 75 = .ok (.if_icmp .ge 50, 3) := dk_162 0 50 (dk_at dksX1_tell_3 5 rfl rfl)
theorem dX1_tell_78 : decode cX1_tell 78 = .ok (.aload 4, 2) := dk_25 4 (dk_at dksX1_tell_3 8 rfl rfl)
theorem dX1_tell_80 : decode cX1_tell 80 = .ok (.iload 5, 2) := dk_21 5 (dk_at dksX1_tell_3 10 rfl rfl)
theorem dX1_tell_82 : decode cX1_tell 82 = .ok (.aload_n 1, 1) := dk_43 (dk_at dksX1_tell_3 12 rfl rfl)
theorem dX1_tell_83 : decode cX1_tell 83 = .ok (.aload_n 0, 1) := dk_42 (dk_at dksX1_tell_3 13 rfl rfl)
theorem dX1_tell_84 : decode cX1_tell 84 = .ok (.getfield 71, 3) := dk_180 0 71 (dk_at dksX1_tell_3 14 rfl rfl)
theorem dX1_tell_87 : decode cX1_tell 87 = .ok (.iload 5, 2) := dk_21 5 (dk_at dksX1_tell_3 17 rfl rfl)
theorem dX1_tell_89 : decode cX1_tell 89 = .ok (.invokevirtual 9, 3) := dk_182 0 9 (dk_at dksX1_tell_3 19 rfl rfl)
theorem dX1_tell_92 : decode cX1_tell 92 = .ok (.checkcast 298, 3) := dk_192 1 42 (dk_at dksX1_tell_4 0 rfl rfl)
theorem dX1_tell_95 : decode cX1_tell 95 = .ok (.getfield 470, 3) := dk_180 1 214 (dk_at dksX1_tell_4 3 rfl rfl)
theorem dX1_tell_98 : decode cX1_tell 98 = .ok (.aaload, 1) := dk_50 (dk_at dksX1_tell_4 6 rfl rfl)
theorem dX1_tell_99 : decode cX1_tell 99 = .ok (.getfield 244, 3) := dk_180 0 244 (dk_at dksX1_tell_4 7 rfl rfl)
theorem dX1_tell_102 : decode cX1_tell 102 = .ok (.aload_n 0, 1) := dk_42 (dk_at dksX1_tell_4 10 rfl rfl)
theorem dX1_tell_103 : decode cX1_tell 103 = .ok (.getfield 71, 3) := dk_180 0 71 (dk_at dksX1_tell_4 11 rfl rfl)
theorem dX1_tell_106 : decode cX1_tell 106 = .ok (.iload 5, 2) := dk_21 5 (dk_at dksX1_tell_4 14 rfl rfl)
theorem dX1_tell_108 : decode cX1_tell 108 = .ok (.invokevirtual 9, 3) := dk_182 0 9 (dk_at dksX1_tell_4 16 rfl rfl)
theorem dX1_tell_111 : decode cX1_tell 111 = .ok (.checkcast 298, 3) := dk_192 1 42 (dk_at dksX1_tell_4 19 rfl rfl)
theorem dX1_tell_114 : decode cX1_tell 114 = .ok (.getfield 471, 3) := dk_180 1 215 (dk_at dksX1_tell_5 0 rfl rfl)
theorem dX1_tell_117 : decode cX1_tell 117 = .ok (.iaload, 1) := dk_46 (dk_at dksX1_tell_5 3 rfl rfl)
theorem dX1_tell_118 : decode cX1_tell 118 = .ok (.iastore, 1) := dk_79 (dk_at dksX1_tell_5 4 rfl rfl)
theorem dX1_tell_119 : decode cX1_tell 119 = .ok (.iinc 5 1, 3) := dk_132 5 1 (dk_at dksX1_tell_5 5 rfl rfl)
theorem dX1_tell_122 : decode cX1_tell 122 = .ok (.goto (-52), 3) := dk_167 255 204 (dk_at dksX1_tell_5 8 rfl rfl)
theorem dX1_tell_125 : decode cX1_tell 125 = .ok (.aload_n 2, 1) := dk_44 (dk_at dksX1_tell_5 11 rfl rfl)
theorem dX1_tell_126 : decode cX1_tell 126 = .ok (.getfield 474, 3) := dk_180 1 218 (dk_at dksX1_tell_5 12 rfl rfl)
theorem dX1_tell_129 : decode cX1_tell 129 = .ok (.aload 4, 2) := dk_25 4 (dk_at dksX1_tell_5 15 rfl rfl)
theorem dX1_tell_131 : decode cX1_tell 131 = .ok (.invokevirtual 165, 3) := dk_182 0 165 (dk_at dksX1_tell_5 17 rfl rfl)
theorem dX1_tell_134 : decode cX1_tell 134 = .ok (.pop, 1) := dk_87 (dk_at dksX1_tell_5 20 rfl rfl)
theorem dX1_tell_135 : decode cX1_tell 135 = .ok (.return_, 1) := dk_177 (dk_at dksX1_tell_5 21 rfl rfl)
theorem dX1_tell_136 : decode cX1_tell 136 = .ok (.aload_n 0, 1) := dk_42 (dk_at dksX1_tell_5 22 rfl rfl)
theorem dX1_tell_137 : decode cX1_tell 137 = .ok (.getfield 71, 3) := dk_180 0 71 (dk_at dksX1_tell_6 0 rfl rfl)
theorem dX1_tell_140 : decode cX1_tell 140 = .ok (.aload_n 0, 1) := dk_42 (dk_at dksX1_tell_6 3 rfl rfl)
theorem dX1_tell_141 : decode cX1_tell 141 = .ok (.getfield 71, 3) := dk_180 0 71 (dk_at dksX1_tell_6 4 rfl rfl)
theorem dX1_tell_144 : decode cX1_tell 144 = .ok (.invokevirtual 3, 3) := dk_182 0 3 (dk_at dksX1_tell_6 7 rfl rfl)
theorem dX1_tell_147 : decode cX1_tell 147 = .ok (.iconst 1, 1) := dk_4 (dk_at dksX1_tell_6 10 rfl rfl)
theorem dX1_tell_148 : decode cX1_tell 148 = .ok (.isub, 1) := dk_100 (dk_at dksX1_tell_6 11 rfl rfl)
theorem dX1_tell_149 : decode cX1_tell 149 = .ok (.invokevirtual 9, 3) := dk_182 0 9 (dk_at dksX1_tell_6 12 rfl rfl)
theorem dX1_tell_152 : decode cX1_tell 152 = .ok (.checkcast 298, 3) := dk_192 1 42 (dk_at dksX1_tell_6 15 rfl rfl)
theorem dX1_tell_155 : decode cX1_tell 155 = .ok (.astore 4, 2) := dk_58 4 (dk_at dksX1_tell_6 18 rfl rfl)
theorem dX1_tell_157 : decode cX1_tell 157 = .ok (.aload_n 1, 1) := dk_43 (dk_at dksX1_tell_6 20 rfl rfl)
theorem dX1_tell_158 : decode cX1_tell 158 = .ok (.aload 4, 2) := dk_25 4 (dk_at dksX1_tell_6 21 rfl rfl)
theorem dX1_tell_160 : decode cX1_tell 160 = .ok (.getfield 470, 3) := dk_180 1 214 (dk_at dksX1_tell_7 0 rfl rfl)
theorem dX1_tell_163 : decode cX1_tell 163 = .ok (.aaload, 1) := dk_50 (dk_at dksX1_tell_7 3 rfl rfl)
theorem dX1_tell_164 : decode cX1_tell 164 = .ok (.getfield 244, 3) := dk_180 0 244 (dk_at dksX1_tell_7 4 rfl rfl)
theorem dX1_tell_167 : decode cX1_tell 167 = .ok (.aload 4, 2) := dk_25 4 (dk_at dksX1_tell_7 7 rfl rfl)
theorem dX1_tell_169 : decode cX1_tell 169 = .ok (.getfield 471, 3) := dk_180 1 215 (dk_at dksX1_tell_7 9 rfl rfl)
theorem dX1_tell_172 : decode cX1_tell 172 = .ok (.iaload, 1) := dk_46 (dk_at dksX1_tell_7 12 rfl rfl)
theorem dX1_tell_173 : decode cX1_tell 173 = .ok (.istore 5, 2) := dk_54 5 (dk_at dksX1_tell_7 13 rfl rfl)
theorem dX1_tell_175 : decode cX1_tell 175 = .ok (.iconst 0, 1) := dk_3 (dk_at dksX1_tell_7 15 rfl rfl)
theorem dX1_tell_176 : decode cX1_tell 176 = .ok (.istore 6, 2) := dk_54 6 (dk_at dksX1_tell_7 16 rfl rfl)
theorem dX1_tell_178 : decode cX1_tell 178 = .ok (.iload 6, 2) := dk_21 6 (dk_at dksX1_tell_7 18 rfl rfl)
theorem dX1_tell_180 : decode cX1_tell 180 = .ok (.aload_n 2, 1) := dk_44 (dk_at dksX1_tell_7 20 rfl rfl)
theorem dX1_tell_181 : decode cX1_tell 181 = .ok (.getfield 474, 3) := dk_180 1 218 (dk_at dksX1_tell_7 21 rfl rfl)
theorem dX1_tell_184 : decode cX1_tell 184 = .ok (.invokevirtual 3, 3) := dk_182 0 3 (dk_at dksX1_tell_8 0 rfl rfl)
theorem dX1_tell_187 : decode cX1_tell 187 = .ok (.if_icmp .ge 33, 3) := dk_162 0 33 (dk_at dksX1_tell_8 3 rfl rfl)
theorem dX1_tell_190 : decode cX1_tell 190 = .ok (.aload_n 2, 1) := dk_44 (dk_at dksX1_tell_8 6 rfl rfl)
theorem dX1_tell_191 : decode cX1_tell 191 = .ok (.getfield 474, 3) := dk_180 1 218 (dk_at dksX1_tell_8 7 rfl rfl)
theorem dX1_tell_194 : decode cX1_tell 194 = .ok (.iload 6, 2) := dk_21 6 (dk_at dksX1_tell_8 10 rfl rfl)
theorem dX1_tell_196 : decode cX1_tell 196 = .ok (.invokevirtual 9, 3) := dk_182 0 9 (dk_at dksX1_tell_8 12 rfl rfl)
theorem dX1_tell_199 : decode cX1_tell 199 = .ok (.checkcast 475, 3) := dk_192 1 219 (dk_at dksX1_tell_8 15 rfl rfl)
theorem dX1_tell_202 : decode cX1_tell 202 = .ok (.iconst 0, 1) := dk_3 (dk_at dksX1_tell_8 18 rfl rfl)
theorem dX1_tell_203 : decode cX1_tell 203 = .ok (.iaload, 1) := dk_46 (dk_at dksX1_tell_8 19 rfl rfl)
theorem dX1_tell_204 : decode cX1_tell 204 = .ok (.invokestatic 476, 3) := dk_184 1 220 (dk_at dksX1_tell_8 20 rfl rfl)
theorem dX1_tell_207 : decode cX1_tell 207 = .ok (.iload_n 3, 1) := dk_29 (dk_at dksX1_tell_8 23 rfl rfl)
theorem dX1_tell_208 : decode cX1_tell 208 = .ok (.invokestatic 476, 3) := dk_184 1 220 (dk_at dksX1_tell_9 0 rfl rfl)
theorem dX1_tell_211 : decode cX1_tell 211 = .ok (.if_icmp .ge 9, 3) := dk_162 0 9 (dk_at dksX1_tell_9 3 rfl rfl)
theorem dX1_tell_214 : decode cX1_tell 214 = .ok (.iinc 6 1, 3) := dk_132 6 1 (dk_at dksX1_tell_9 6 rfl rfl)
theorem dX1_tell_217 : decode cX1_tell 217 = .ok (.goto (-39), 3) := dk_167 255 217 (dk_at dksX1_tell_9 9 rfl rfl)
theorem dX1_tell_220 : decode cX1_tell 220 = .ok (.iload 6, 2) := dk_21 6 (dk_at dksX1_tell_9 12 rfl rfl)
theorem dX1_tell_222 : decode cX1_tell 222 = .ok (.aload_n 2, 1) := dk_44 (dk_at dksX1_tell_9 14 rfl rfl)
theorem dX1_tell_223 : decode cX1_tell 223 = .ok (.getfield 474, 3) := dk_180 1 218 (dk_at dksX1_tell_9 15 rfl rfl)
theorem dX1_tell_226 : decode cX1_tell 226 = .ok (.invokevirtual 3, 3) := dk_182 0 3 (dk_at dksX1_tell_9 18 rfl rfl)
theorem dX1_tell_229 : decode cX1_tell 229 = .ok (.if_icmp .eq 21, 3) := dk_159 0 21 (dk_at dksX1_tell_9 21 rfl rfl)
theorem dX1_tell_232 : decode cX1_tell 232 = .ok (.aload_n 2, 1) := dk_44 (dk_at dksX1_tell_10 0 rfl rfl)
theorem dX1_tell_233 : decode cX1_tell 233 = .ok (.getfield 474, 3) := dk_180 1 218 (dk_at dksX1_tell_10 1 rfl rfl)
theorem dX1_tell_236 : decode cX1_tell 236 = .ok (.iload 6, 2) := dk_21 6 (dk_at dksX1_tell_10 4 rfl rfl)
theorem dX1_tell_238 : decode cX1_tell 238 = .ok (.invokevirtual 9, 3) := dk_182 0 9 (dk_at dksX1_tell_10 6 rfl rfl)
theorem dX1_tell_241 : decode cX1_tell 241 = .ok (.checkcast 475, 3) := dk_192 1 219 (dk_at dksX1_tell_10 9 rfl rfl)
theorem dX1_tell_244 : decode cX1_tell 244 = .ok (.iconst 0, 1) := dk_3 (dk_at dksX1_tell_10 12 rfl rfl)
theorem dX1_tell_245 : decode cX1_tell 245 = .ok (.iaload, 1) := dk_46 (dk_at dksX1_tell_10 13 rfl rfl)
theorem dX1_tell_246 : decode cX1_tell 246 = .ok (.iload_n 3, 1) := dk_29 (dk_at dksX1_tell_10 14 rfl rfl)
theorem dX1_tell_247 : decode cX1_tell 247 = .ok (.if_icmp .eq 27, 3) := dk_159 0 27 (dk_at dksX1_tell_10 15 rfl rfl)
theorem dX1_tell_250 : decode cX1_tell 250 = .ok (.aload_n 2, 1) := dk_44 (dk_at dksX1_tell_10 18 rfl rfl)
theorem dX1_tell_251 : decode cX1_tell 251 = .ok (.getfield 474, 3) := dk_180 1 218 (dk_at dksX1_tell_10 19 rfl rfl)
theorem dX1_tell_254 : decode cX1_tell 254 = .ok (.iload 6, 2) := dk_21 6 (dk_at dksX1_tell_10 22 rfl rfl)
theorem dX1_tell_256 : decode cX1_tell 256 = .ok (.iconst 3, 1) := dk_6 (dk_at dksX1_tell_11 0 rfl rfl)
theorem dX1_tell_257 : decode cX1_tell 257 = .ok (.newarray .int, 2) := dk_188_10 (dk_at dksX1_tell_11 1 rfl rfl)
theorem dX1_tell_259 : decode cX1_tell 259 = .ok (.dup, 1) := dk_89 (dk_at dksX1_tell_11 3 rfl rfl)
theorem dX1_tell_260 : decode cX1_tell 260 = .ok (.iconst 0, 1) := dk_3 (dk_at dksX1_tell_11 4 rfl rfl)
theorem dX1_tell_261 : decode cX1_tell 261 = .ok (.iload_n 3, 1) := dk_29 (dk_at dksX1_tell_11 5 rfl rfl)
theorem dX1_tell_262 : decode cX1_tell 262 = .ok (.iastore, 1) := dk_79 (dk_at dksX1_tell_11 6 rfl rfl)
theorem dX1_tell_263 : decode cX1_tell 263 = .ok (.dup, 1) := dk_89 (dk_at dksX1_tell_11 7 rfl rfl)
theorem dX1_tell_264 : decode cX1_tell 264 = .ok (.iconst 1, 1) := dk_4 (dk_at dksX1_tell_11 8 rfl rfl)
theorem dX1_tell_265 : decode cX1_tell 265 = .ok (.iconst 0, 1) := dk_3 (dk_at dksX1_tell_11 9 rfl rfl)
theorem dX1_tell_266 : decode cX1_tell 266 = .ok (.iastore, 1) := dk_79 (dk_at dksX1_tell_11 10 rfl rfl)
theorem dX1_tell_267 : decode cX1_tell 267 = .ok (.dup, 1) := dk_89 (dk_at dksX1_tell_11 11 rfl rfl)
theorem dX1_tell_268 : decode cX1_tell 268 = .ok (.iconst 2, 1) := dk_5 (dk_at dksX1_tell_11 12 rfl rfl)
theorem dX1_tell_269 : decode cX1_tell 269 = .ok (.iconst 0, 1) := dk_3 (dk_at dksX1_tell_11 13 rfl rfl)
theorem dX1_tell_270 : decode cX1_tell 270 = .ok (.iastore, 1) := dk_79 (dk_at dksX1_tell_11 14 rfl rfl)
theorem dX1_tell_271 : decode cX1_tell 271 = .ok (.invokevirtual 405, 3) := dk_182 1 149 (dk_at dksX1_tell_11 15 rfl rfl)
theorem dX1_tell_274 : decode cX1_tell 274 = .ok (.aload_n 2, 1) := dk_44 (dk_at dksX1_tell_11 18 rfl rfl)
theorem dX1_tell_275 : decode cX1_tell 275 = .ok (.getfield 474, 3) := dk_180 1 218 (dk_at dksX1_tell_11 19 rfl rfl)
theorem dX1_tell_278 : decode cX1_tell 278 = .ok (.iload 6, 2) := dk_21 6 (dk_at dksX1_tell_11 22 rfl rfl)
theorem dX1_tell_280 : decode cX1_tell 280 = .ok (.invokevirtual 9, 3) := dk_182 0 9 (dk_at dksX1_tell_12 0 rfl rfl)
theorem dX1_tell_283 : decode cX1_tell 283 = .ok (.checkcast 475, 3) := dk_192 1 219 (dk_at dksX1_tell_12 3 rfl rfl)
theorem dX1_tell_286 : decode cX1_tell 286 = .ok (.iconst 1, 1) := dk_4 (dk_at dksX1_tell_12 6 rfl rfl)
theorem dX1_tell_287 : decode cX1_tell 287 = .ok (.dup2, 1) := dk_92 (dk_at dksX1_tell_12 7 rfl rfl)
theorem dX1_tell_288 : decode cX1_tell 288 = .ok (.iaload, 1) := dk_46 (dk_at dksX1_tell_12 8 rfl rfl)
theorem dX1_tell_289 : decode cX1_tell 289 = .ok (.iconst 1, 1) := dk_4 (dk_at dksX1_tell_12 9 rfl rfl)
theorem dX1_tell_290 : decode cX1_tell 290 = .ok (.iadd, 1) := dk_96 (dk_at dksX1_tell_12 10 rfl rfl)
theorem dX1_tell_291 : decode cX1_tell 291 = .ok (.iastore, 1) := dk_79 (dk_at dksX1_tell_12 11 rfl rfl)
theorem dX1_tell_292 : decode cX1_tell 292 = .ok (.aload_n 2, 1) := dk_44 (dk_at dksX1_tell_12 12 rfl rfl)
theorem dX1_tell_293 : decode cX1_tell 293 = .ok (.getfield 474, 3) := dk_180 1 218 (dk_at dksX1_tell_12 13 rfl rfl)
theorem dX1_tell_296 : decode cX1_tell 296 = .ok (.iload 6, 2) := dk_21 6 (dk_at dksX1_tell_12 16 rfl rfl)
theorem dX1_tell_298 : decode cX1_tell 298 = .ok (.invokevirtual 9, 3) := dk_182 0 9 (dk_at dksX1_tell_12 18 rfl rfl)
theorem dX1_tell_301 : decode cX1_tell 301 = .ok (.checkcast 475, 3) := dk_192 1 219 (dk_at dksX1_tell_12 21 rfl rfl)
theorem dX1_tell_304 : decode cX1_tell 304 = .ok (.iconst 2, 1) := dk_5 (dk_at dksX1_tell_13 0 rfl rfl)
theorem dX1_tell_305 : decode cX1_tell 305 = .ok (.dup2, 1) := dk_92 (dk_at dksX1_tell_13 1 rfl rfl)
theorem dX1_tell_306 : decode cX1_tell 306 = .ok (.iaload, 1) := dk_46 (dk_at dksX1_tell_13 2 rfl rfl)
theorem dX1_tell_307 : decode cX1_tell 307 = .ok (.iload 5, 2) := dk_21 5 (dk_at dksX1_tell_13 3 rfl rfl)
theorem dX1_tell_309 : decode cX1_tell 309 = .ok (.invokestatic 293, 3) := dk_184 1 37 (dk_at dksX1_tell_13 5 rfl rfl)
theorem dX1_tell_312 : decode cX1_tell 312 = .ok (.ifCond .eq 8, 3) := dk_153 0 8 (dk_at dksX1_tell_13 8 rfl rfl)
theorem dX1_tell_315 : decode cX1_tell 315 = .ok (.iload 5, 2) := dk_21 5 (dk_at dksX1_tell_13 11 rfl rfl)
theorem dX1_tell_317 : decode cX1_tell 317 = .ok (.goto 4, 3) := dk_167 0 4 (dk_at dksX1_tell_13 13 rfl rfl)
theorem dX1_tell_320 : decode cX1_tell 320 = .ok (.iconst 0, 1) := dk_3 (dk_at dksX1_tell_13 16 rfl rfl)
theorem dX1_tell_321 : decode cX1_tell 321 = .ok (.iadd, 1) := dk_96 (dk_at dksX1_tell_13 17 rfl rfl)
theorem dX1_tell_322 : decode cX1_tell 322 = .ok (.iastore, 1) := dk_79 (dk_at dksX1_tell_13 18 rfl rfl)
theorem dX1_tell_323 : decode cX1_tell 323 = .ok (.return_, 1) := dk_177 (dk_at dksX1_tell_13 19 rfl rfl)
abbrev cX1_rank : ByteArray := prog_1_method_54_code
def yX1_rank : MethodName := ⟨RX1, "rank", "(I)I"⟩
def dkwX1_rank_1 : List UInt8 := [167, 0, 4, 26, 172]
abbrev dktX1_rank_1 : List UInt8 := dkwX1_rank_1 ++ []
def dkwX1_rank_0 : List UInt8 := [26, 17, 19, 137, 160, 0, 9, 17, 252, 23, 167, 0, 17, 26, 17, 19, 136, 160, 0, 9, 17, 252, 24]
abbrev dktX1_rank_0 : List UInt8 := dkwX1_rank_0 ++ dktX1_rank_1
theorem dksX1_rank_0 : cX1_rank.data.toList.drop 0 = dktX1_rank_0 := by decide +kernel
theorem dksX1_rank_1 : cX1_rank.data.toList.drop 23 = dktX1_rank_1 := dk_seg dksX1_rank_0 23 rfl rfl
theorem dX1_rank_0 : decode cX1_rank 0 = .ok (.iload_n 0, 1) := dk_26 (dk_at dksX1_rank_0 0 rfl rfl)
theorem dX1_rank_1 : decode cX1_rank 1 = .ok (.sipush 5001, 3) := dk_17 19 137 (dk_at dksX1_rank_0 1 rfl rfl)
theorem dX1_rank_4 : decode cX1_rank 4 = .ok (.if_icmp .ne 9, 3) := dk_160 0 9 (dk_at dksX1_rank_0 4 rfl rfl)
theorem dX1_rank_7 : decode cX1_rank 7 = .ok (.sipush (-1001), 3) := dk_17 252 23 (dk_at dksX1_rank_0 7 rfl rfl)
theorem dX1_rank_10 : decode cX1_rank 10 = .ok (.goto 17, 3) := dk_167 0 17 (dk_at dksX1_rank_0 10 rfl rfl)
theorem dX1_rank_13 : decode cX1_rank 13 = .ok (.iload_n 0, 1) := dk_26 (dk_at dksX1_rank_0 13 rfl rfl)
theorem dX1_rank_14 : decode cX1_rank 14 = .ok (.sipush 5000, 3) := dk_17 19 136 (dk_at dksX1_rank_0 14 rfl rfl)
theorem dX1_rank_17 : decode cX1_rank 17 = .ok (.if_icmp .ne 9, 3) := dk_160 0 9 (dk_at dksX1_rank_0 17 rfl rfl)
theorem dX1_rank_20 : decode cX1_rank 20 = .ok (.sipush (-1000), 3) := dk_17 252 24 (dk_at dksX1_rank_0 20 rfl rfl)
theorem dX1_rank_23 : decode cX1_rank 23 = .ok (.goto 4, 3) := dk_167 0 4 (dk_at dksX1_rank_1 0 rfl rfl)
theorem dX1_rank_26 : decode cX1_rank 26 = .ok (.iload_n 0, 1) := dk_26 (dk_at dksX1_rank_1 3 rfl rfl)
theorem dX1_rank_27 : decode cX1_rank 27 = .ok (.ireturn, 1) := dk_172 (dk_at dksX1_rank_1 4 rfl rfl)
abbrev cX1_areLinked : ByteArray := prog_1_method_52_code
def yX1_areLinked : MethodName := ⟨RX1, "areLinked", "([LQueryHarbor$Row;I)Z"⟩
def dkwX1_areLinked_3 : List UInt8 := [167, 255, 192, 29, 172]
abbrev dktX1_areLinked_3 : List UInt8 := dkwX1_areLinked_3 ++ []
def dkwX1_areLinked_2 : List UInt8 := [180, 1, 160, 50, 43, 28, 50, 182, 1, 211, 153, 0, 7, 4, 167, 0, 4, 3, 126, 62, 132, 4, 1]
abbrev dktX1_areLinked_2 : List UInt8 := dkwX1_areLinked_2 ++ dktX1_areLinked_3
def dkwX1_areLinked_1 : List UInt8 := [182, 0, 9, 192, 1, 32, 58, 5, 29, 25, 5, 180, 1, 163, 28, 160, 0, 21, 25, 5, 43, 25, 5]
abbrev dktX1_areLinked_1 : List UInt8 := dkwX1_areLinked_1 ++ dktX1_areLinked_2
def dkwX1_areLinked_0 : List UInt8 := [4, 62, 3, 54, 4, 21, 4, 42, 180, 0, 65, 182, 0, 3, 162, 0, 58, 42, 180, 0, 65, 21, 4]
abbrev dktX1_areLinked_0 : List UInt8 := dkwX1_areLinked_0 ++ dktX1_areLinked_1
theorem dksX1_areLinked_0 : cX1_areLinked.data.toList.drop 0 = dktX1_areLinked_0 := by decide +kernel
theorem dksX1_areLinked_1 : cX1_areLinked.data.toList.drop 23 = dktX1_areLinked_1 := dk_seg dksX1_areLinked_0 23 rfl rfl
theorem dksX1_areLinked_2 : cX1_areLinked.data.toList.drop 46 = dktX1_areLinked_2 := dk_seg dksX1_areLinked_1 23 rfl rfl
theorem dksX1_areLinked_3 : cX1_areLinked.data.toList.drop 69 = dktX1_areLinked_3 := dk_seg dksX1_areLinked_2 23 rfl rfl
theorem dX1_areLinked_0 : decode cX1_areLinked 0 = .ok (.iconst 1, 1) := dk_4 (dk_at dksX1_areLinked_0 0 rfl rfl)
theorem dX1_areLinked_1 : decode cX1_areLinked 1 = .ok (.istore_n 3, 1) := dk_62 (dk_at dksX1_areLinked_0 1 rfl rfl)
theorem dX1_areLinked_2 : decode cX1_areLinked 2 = .ok (.iconst 0, 1) := dk_3 (dk_at dksX1_areLinked_0 2 rfl rfl)
theorem dX1_areLinked_3 : decode cX1_areLinked 3 = .ok (.istore 4, 2) := dk_54 4 (dk_at dksX1_areLinked_0 3 rfl rfl)
theorem dX1_areLinked_5 : decode cX1_areLinked 5 = .ok (.iload 4, 2) := dk_21 4 (dk_at dksX1_areLinked_0 5 rfl rfl)
theorem dX1_areLinked_7 : decode cX1_areLinked 7 = .ok (.aload_n 0, 1) := dk_42 (dk_at dksX1_areLinked_0 7 rfl rfl)
theorem dX1_areLinked_8 : decode cX1_areLinked 8 = .ok (.getfield 65, 3) := dk_180 0 65 (dk_at dksX1_areLinked_0 8 rfl rfl)
theorem dX1_areLinked_11 : decode cX1_areLinked 11 = .ok (.invokevirtual 3, 3) := dk_182 0 3 (dk_at dksX1_areLinked_0 11 rfl rfl)
theorem dX1_areLinked_14 : decode cX1_areLinked 14 = .ok (.if_icmp .ge 58, 3) := dk_162 0 58 (dk_at dksX1_areLinked_0 14 rfl rfl)
theorem dX1_areLinked_17 : decode cX1_areLinked 17 = .ok (.aload_n 0, 1) := dk_42 (dk_at dksX1_areLinked_0 17 rfl rfl)
theorem dX1_areLinked_18 : decode cX1_areLinked 18 = .ok (.getfield 65, 3) := dk_180 0 65 (dk_at dksX1_areLinked_0 18 rfl rfl)
theorem dX1_areLinked_21 : decode cX1_areLinked 21 = .ok (.iload 4, 2) := dk_21 4 (dk_at dksX1_areLinked_0 21 rfl rfl)
theorem dX1_areLinked_23 : decode cX1_areLinked 23 = .ok (.invokevirtual 9, 3) := dk_182 0 9 (dk_at dksX1_areLinked_1 0 rfl rfl)
theorem dX1_areLinked_26 : decode cX1_areLinked 26 = .ok (.checkcast 288, 3) := dk_192 1 32 (dk_at dksX1_areLinked_1 3 rfl rfl)
theorem dX1_areLinked_29 : decode cX1_areLinked 29 = .ok (.astore 5, 2) := dk_58 5 (dk_at dksX1_areLinked_1 6 rfl rfl)
theorem dX1_areLinked_31 : decode cX1_areLinked 31 = .ok (.iload_n 3, 1) := dk_29 (dk_at dksX1_areLinked_1 8 rfl rfl)
theorem dX1_areLinked_32 : decode cX1_areLinked 32 = .ok (.aload 5, 2) := dk_25 5 (dk_at dksX1_areLinked_1 9 rfl rfl)
theorem dX1_areLinked_34 : decode cX1_areLinked 34 = .ok (.getfield 419, 3) := dk_180 1 163 (dk_at dksX1_areLinked_1 11 rfl rfl)
theorem dX1_areLinked_37 : decode cX1_areLinked 37 = .ok (.iload_n 2, 1) := dk_28 (dk_at dksX1_areLinked_1 14 rfl rfl)
theorem dX1_areLinked_38 : decode cX1_areLinked 38 = .ok (.if_icmp .ne 21, 3) := dk_160 0 21 (dk_at dksX1_areLinked_1 15 rfl rfl)
theorem dX1_areLinked_41 : decode cX1_areLinked 41 = .ok (.aload 5, 2) := dk_25 5 (dk_at dksX1_areLinked_1 18 rfl rfl)
theorem dX1_areLinked_43 : decode cX1_areLinked 43 = .ok (.aload_n 1, 1) := dk_43 (dk_at dksX1_areLinked_1 20 rfl rfl)
theorem dX1_areLinked_44 : decode cX1_areLinked 44 = .ok (.aload 5, 2) := dk_25 5 (dk_at dksX1_areLinked_1 21 rfl rfl)
theorem dX1_areLinked_46 : decode cX1_areLinked 46 = .ok (.getfield 416, 3) := dk_180 1 160 (dk_at dksX1_areLinked_2 0 rfl rfl)
theorem dX1_areLinked_49 : decode cX1_areLinked 49 = .ok (.aaload, 1) := dk_50 (dk_at dksX1_areLinked_2 3 rfl rfl)
theorem dX1_areLinked_50 : decode cX1_areLinked 50 = .ok (.aload_n 1, 1) := dk_43 (dk_at dksX1_areLinked_2 4 rfl rfl)
theorem dX1_areLinked_51 : decode cX1_areLinked 51 = .ok (.iload_n 2, 1) := dk_28 (dk_at dksX1_areLinked_2 5 rfl rfl)
theorem dX1_areLinked_52 : decode cX1_areLinked 52 = .ok (.aaload, 1) := dk_50 (dk_at dksX1_areLinked_2 6 rfl rfl)
theorem dX1_areLinked_53 : decode cX1_areLinked 53 = .ok (.invokevirtual 467, 3) := dk_182 1 211 (dk_at dksX1_areLinked_2 7 rfl rfl)
theorem dX1_areLinked_56 : decode cX1_areLinked 56 = .ok (.ifCond .eq 7, 3) := dk_153 0 7 (dk_at dksX1_areLinked_2 10 rfl rfl)
theorem dX1_areLinked_59 : decode cX1_areLinked 59 = .ok (.iconst 1, 1) := dk_4 (dk_at dksX1_areLinked_2 13 rfl rfl)
theorem dX1_areLinked_60 : decode cX1_areLinked 60 = .ok (.goto 4, 3) := dk_167 0 4 (dk_at dksX1_areLinked_2 14 rfl rfl)
theorem dX1_areLinked_63 : decode cX1_areLinked 63 = .ok (.iconst 0, 1) := dk_3 (dk_at dksX1_areLinked_2 17 rfl rfl)
theorem dX1_areLinked_64 : decode cX1_areLinked 64 = .ok (.iand, 1) := dk_126 (dk_at dksX1_areLinked_2 18 rfl rfl)
theorem dX1_areLinked_65 : decode cX1_areLinked 65 = .ok (.istore_n 3, 1) := dk_62 (dk_at dksX1_areLinked_2 19 rfl rfl)
theorem dX1_areLinked_66 : decode cX1_areLinked 66 = .ok (.iinc 4 1, 3) := dk_132 4 1 (dk_at dksX1_areLinked_2 20 rfl rfl)
theorem dX1_areLinked_69 : decode cX1_areLinked 69 = .ok (.goto (-64), 3) := dk_167 255 192 (dk_at dksX1_areLinked_3 0 rfl rfl)
theorem dX1_areLinked_72 : decode cX1_areLinked 72 = .ok (.iload_n 3, 1) := dk_29 (dk_at dksX1_areLinked_3 3 rfl rfl)
theorem dX1_areLinked_73 : decode cX1_areLinked 73 = .ok (.ireturn, 1) := dk_172 (dk_at dksX1_areLinked_3 4 rfl rfl)
abbrev cX1_cut : ByteArray := prog_1_method_55_code
def yX1_cut : MethodName := ⟨RX1, "cut", "(LQueryHarbor$Answer;)V"⟩
def dkwX1_cut_1 : List UInt8 := [182, 0, 3, 4, 100, 182, 0, 124, 87, 167, 255, 225, 177]
abbrev dktX1_cut_1 : List UInt8 := dkwX1_cut_1 ++ []
def dkwX1_cut_0 : List UInt8 := [43, 180, 1, 218, 182, 0, 3, 42, 180, 0, 77, 164, 0, 23, 43, 180, 1, 218, 43, 180, 1, 218]
abbrev dktX1_cut_0 : List UInt8 := dkwX1_cut_0 ++ dktX1_cut_1
theorem dksX1_cut_0 : cX1_cut.data.toList.drop 0 = dktX1_cut_0 := by decide +kernel
theorem dksX1_cut_1 : cX1_cut.data.toList.drop 22 = dktX1_cut_1 := dk_seg dksX1_cut_0 22 rfl rfl
theorem dX1_cut_0 : decode cX1_cut 0 = .ok (.aload_n 1, 1) := dk_43 (dk_at dksX1_cut_0 0 rfl rfl)
theorem dX1_cut_1 : decode cX1_cut 1 = .ok (.getfield 474, 3) := dk_180 1 218 (dk_at dksX1_cut_0 1 rfl rfl)
theorem dX1_cut_4 : decode cX1_cut 4 = .ok (.invokevirtual 3, 3) := dk_182 0 3 (dk_at dksX1_cut_0 4 rfl rfl)
theorem dX1_cut_7 : decode cX1_cut 7 = .ok (.aload_n 0, 1) := dk_42 (dk_at dksX1_cut_0 7 rfl rfl)
theorem dX1_cut_8 : decode cX1_cut 8 = .ok (.getfield 77, 3) := dk_180 0 77 (dk_at dksX1_cut_0 8 rfl rfl)
theorem dX1_cut_11 : decode cX1_cut 11 = .ok (.if_icmp .le 23, 3) := dk_164 0 23 (dk_at dksX1_cut_0 11 rfl rfl)
theorem dX1_cut_14 : decode cX1_cut 14 = .ok (.aload_n 1, 1) := dk_43 (dk_at dksX1_cut_0 14 rfl rfl)
theorem dX1_cut_15 : decode cX1_cut 15 = .ok (.getfield 474, 3) := dk_180 1 218 (dk_at dksX1_cut_0 15 rfl rfl)
theorem dX1_cut_18 : decode cX1_cut 18 = .ok (.aload_n 1, 1) := dk_43 (dk_at dksX1_cut_0 18 rfl rfl)
theorem dX1_cut_19 : decode cX1_cut 19 = .ok (.getfield 474, 3) := dk_180 1 218 (dk_at dksX1_cut_0 19 rfl rfl)
theorem dX1_cut_22 : decode cX1_cut 22 = .ok (.invokevirtual 3, 3) := dk_182 0 3 (dk_at dksX1_cut_1 0 rfl rfl)
theorem dX1_cut_25 : decode cX1_cut 25 = .ok (.iconst 1, 1) := dk_4 (dk_at dksX1_cut_1 3 rfl rfl)
theorem dX1_cut_26 : decode cX1_cut 26 = .ok (.isub, 1) := dk_100 (dk_at dksX1_cut_1 4 rfl rfl)
theorem dX1_cut_27 : decode cX1_cut 27 = .ok (.invokevirtual 124, 3) := dk_182 0 124 (dk_at dksX1_cut_1 5 rfl rfl)
theorem dX1_cut_30 : decode cX1_cut 30 = .ok (.pop, 1) := dk_87 (dk_at dksX1_cut_1 8 rfl rfl)
theorem dX1_cut_31 : decode cX1_cut 31 = .ok (.goto (-31), 3) := dk_167 255 225 (dk_at dksX1_cut_1 9 rfl rfl)
theorem dX1_cut_34 : decode cX1_cut 34 = .ok (.return_, 1) := dk_177 (dk_at dksX1_cut_1 12 rfl rfl)
abbrev cX1_answer : ByteArray := prog_1_method_59_code
def yX1_answer : MethodName := ⟨RX1, "answer", "(II)I"⟩
def dkwX1_answer_0 : List UInt8 := [42, 42, 180, 0, 84, 27, 28, 182, 2, 4, 172]
abbrev dktX1_answer_0 : List UInt8 := dkwX1_answer_0 ++ []
theorem dksX1_answer_0 : cX1_answer.data.toList.drop 0 = dktX1_answer_0 := by decide +kernel
theorem dX1_answer_0 : decode cX1_answer 0 = .ok (.aload_n 0, 1) := dk_42 (dk_at dksX1_answer_0 0 rfl rfl)
theorem dX1_answer_1 : decode cX1_answer 1 = .ok (.aload_n 0, 1) := dk_42 (dk_at dksX1_answer_0 1 rfl rfl)
theorem dX1_answer_2 : decode cX1_answer 2 = .ok (.getfield 84, 3) := dk_180 0 84 (dk_at dksX1_answer_0 2 rfl rfl)
theorem dX1_answer_5 : decode cX1_answer 5 = .ok (.iload_n 1, 1) := dk_27 (dk_at dksX1_answer_0 5 rfl rfl)
theorem dX1_answer_6 : decode cX1_answer 6 = .ok (.iload_n 2, 1) := dk_28 (dk_at dksX1_answer_0 6 rfl rfl)
theorem dX1_answer_7 : decode cX1_answer 7 = .ok (.invokevirtual 516, 3) := dk_182 2 4 (dk_at dksX1_answer_0 7 rfl rfl)
theorem dX1_answer_10 : decode cX1_answer 10 = .ok (.ireturn, 1) := dk_172 (dk_at dksX1_answer_0 10 rfl rfl)
abbrev cX1_cellOf : ByteArray := prog_1_method_58_code
def yX1_cellOf : MethodName := ⟨RX1, "cellOf", "(LQueryHarbor$Answer;II)I"⟩
def dkwX1_cellOf_1 : List UInt8 := [43, 180, 1, 218, 28, 182, 0, 9, 192, 1, 219, 190, 184, 0, 112, 46, 172]
abbrev dktX1_cellOf_1 : List UInt8 := dkwX1_cellOf_1 ++ []
def dkwX1_cellOf_0 : List UInt8 := [28, 43, 180, 1, 218, 182, 0, 3, 184, 0, 112, 87, 43, 180, 1, 218, 28, 182, 0, 9, 192, 1, 219, 29]
abbrev dktX1_cellOf_0 : List UInt8 := dkwX1_cellOf_0 ++ dktX1_cellOf_1
theorem dksX1_cellOf_0 : cX1_cellOf.data.toList.drop 0 = dktX1_cellOf_0 := by decide +kernel
theorem dksX1_cellOf_1 : cX1_cellOf.data.toList.drop 24 = dktX1_cellOf_1 := dk_seg dksX1_cellOf_0 24 rfl rfl
theorem dX1_cellOf_0 : decode cX1_cellOf 0 = .ok (.iload_n 2, 1) := dk_28 (dk_at dksX1_cellOf_0 0 rfl rfl)
theorem dX1_cellOf_1 : decode cX1_cellOf 1 = .ok (.aload_n 1, 1) := dk_43 (dk_at dksX1_cellOf_0 1 rfl rfl)
theorem dX1_cellOf_2 : decode cX1_cellOf 2 = .ok (.getfield 474, 3) := dk_180 1 218 (dk_at dksX1_cellOf_0 2 rfl rfl)
theorem dX1_cellOf_5 : decode cX1_cellOf 5 = .ok (.invokevirtual 3, 3) := dk_182 0 3 (dk_at dksX1_cellOf_0 5 rfl rfl)
theorem dX1_cellOf_8 : decode cX1_cellOf 8 = .ok (.invokestatic 112, 3) := dk_184 0 112 (dk_at dksX1_cellOf_0 8 rfl rfl)
theorem dX1_cellOf_11 : decode cX1_cellOf 11 = .ok (.pop, 1) := dk_87 (dk_at dksX1_cellOf_0 11 rfl rfl)
theorem dX1_cellOf_12 : decode cX1_cellOf 12 = .ok (.aload_n 1, 1) := dk_43 (dk_at dksX1_cellOf_0 12 rfl rfl)
theorem dX1_cellOf_13 : decode cX1_cellOf 13 = .ok (.getfield 474, 3) := dk_180 1 218 (dk_at dksX1_cellOf_0 13 rfl rfl)
theorem dX1_cellOf_16 : decode cX1_cellOf 16 = .ok (.iload_n 2, 1) := dk_28 (dk_at dksX1_cellOf_0 16 rfl rfl)
theorem dX1_cellOf_17 : decode cX1_cellOf 17 = .ok (.invokevirtual 9, 3) := dk_182 0 9 (dk_at dksX1_cellOf_0 17 rfl rfl)
theorem dX1_cellOf_20 : decode cX1_cellOf 20 = .ok (.checkcast 475, 3) := dk_192 1 219 (dk_at dksX1_cellOf_0 20 rfl rfl)
theorem dX1_cellOf_23 : decode cX1_cellOf 23 = .ok (.iload_n 3, 1) := dk_29 (dk_at dksX1_cellOf_0 23 rfl rfl)
theorem dX1_cellOf_24 : decode cX1_cellOf 24 = .ok (.aload_n 1, 1) := dk_43 (dk_at dksX1_cellOf_1 0 rfl rfl)
theorem dX1_cellOf_25 : decode cX1_cellOf 25 = .ok (.getfield 474, 3) := dk_180 1 218 (dk_at dksX1_cellOf_1 1 rfl rfl)
theorem dX1_cellOf_28 : decode cX1_cellOf 28 = .ok (.iload_n 2, 1) := dk_28 (dk_at dksX1_cellOf_1 4 rfl rfl)
theorem dX1_cellOf_29 : decode cX1_cellOf 29 = .ok (.invokevirtual 9, 3) := dk_182 0 9 (dk_at dksX1_cellOf_1 5 rfl rfl)
theorem dX1_cellOf_32 : decode cX1_cellOf 32 = .ok (.checkcast 475, 3) := dk_192 1 219 (dk_at dksX1_cellOf_1 8 rfl rfl)
theorem dX1_cellOf_35 : decode cX1_cellOf 35 = .ok (.arraylength, 1) := dk_190 (dk_at dksX1_cellOf_1 11 rfl rfl)
theorem dX1_cellOf_36 : decode cX1_cellOf 36 = .ok (.invokestatic 112, 3) := dk_184 0 112 (dk_at dksX1_cellOf_1 12 rfl rfl)
theorem dX1_cellOf_39 : decode cX1_cellOf 39 = .ok (.iaload, 1) := dk_46 (dk_at dksX1_cellOf_1 15 rfl rfl)
theorem dX1_cellOf_40 : decode cX1_cellOf 40 = .ok (.ireturn, 1) := dk_172 (dk_at dksX1_cellOf_1 16 rfl rfl)
abbrev cX1_taken : ByteArray := prog_1_method_65_code
def yX1_taken : MethodName := ⟨RX1, "taken", "(I)I"⟩
def dkwX1_taken_1 : List UInt8 := [192, 0, 160, 182, 1, 22, 172]
abbrev dktX1_taken_1 : List UInt8 := dkwX1_taken_1 ++ []
def dkwX1_taken_0 : List UInt8 := [42, 180, 0, 84, 180, 1, 234, 27, 42, 180, 0, 84, 180, 1, 234, 182, 0, 3, 184, 0, 112, 182, 0, 9]
abbrev dktX1_taken_0 : List UInt8 := dkwX1_taken_0 ++ dktX1_taken_1
theorem dksX1_taken_0 : cX1_taken.data.toList.drop 0 = dktX1_taken_0 := by decide +kernel
theorem dksX1_taken_1 : cX1_taken.data.toList.drop 24 = dktX1_taken_1 := dk_seg dksX1_taken_0 24 rfl rfl
theorem dX1_taken_0 : decode cX1_taken 0 = .ok (.aload_n 0, 1) := dk_42 (dk_at dksX1_taken_0 0 rfl rfl)
theorem dX1_taken_1 : decode cX1_taken 1 = .ok (.getfield 84, 3) := dk_180 0 84 (dk_at dksX1_taken_0 1 rfl rfl)
theorem dX1_taken_4 : decode cX1_taken 4 = .ok (.getfield 490, 3) := dk_180 1 234 (dk_at dksX1_taken_0 4 rfl rfl)
theorem dX1_taken_7 : decode cX1_taken 7 = .ok (.iload_n 1, 1) := dk_27 (dk_at dksX1_taken_0 7 rfl rfl)
theorem dX1_taken_8 : decode cX1_taken 8 = .ok (.aload_n 0, 1) := dk_42 (dk_at dksX1_taken_0 8 rfl rfl)
theorem dX1_taken_9 : decode cX1_taken 9 = .ok (.getfield 84, 3) := dk_180 0 84 (dk_at dksX1_taken_0 9 rfl rfl)
theorem dX1_taken_12 : decode cX1_taken 12 = .ok (.getfield 490, 3) := dk_180 1 234 (dk_at dksX1_taken_0 12 rfl rfl)
theorem dX1_taken_15 : decode cX1_taken 15 = .ok (.invokevirtual 3, 3) := dk_182 0 3 (dk_at dksX1_taken_0 15 rfl rfl)
theorem dX1_taken_18 : decode cX1_taken 18 = .ok (.invokestatic 112, 3) := dk_184 0 112 (dk_at dksX1_taken_0 18 rfl rfl)
theorem dX1_taken_21 : decode cX1_taken 21 = .ok (.invokevirtual 9, 3) := dk_182 0 9 (dk_at dksX1_taken_0 21 rfl rfl)
theorem dX1_taken_24 : decode cX1_taken 24 = .ok (.checkcast 160, 3) := dk_192 0 160 (dk_at dksX1_taken_1 0 rfl rfl)
theorem dX1_taken_27 : decode cX1_taken 27 = .ok (.invokevirtual 278, 3) := dk_182 1 22 (dk_at dksX1_taken_1 3 rfl rfl)
theorem dX1_taken_30 : decode cX1_taken 30 = .ok (.ireturn, 1) := dk_172 (dk_at dksX1_taken_1 6 rfl rfl)
abbrev cX1_size : ByteArray := prog_1_method_66_code
def yX1_size : MethodName := ⟨RX1, "size", "(I)I"⟩
def dkwX1_size_0 : List UInt8 := [42, 27, 182, 0, 179, 180, 1, 124, 172]
abbrev dktX1_size_0 : List UInt8 := dkwX1_size_0 ++ []
theorem dksX1_size_0 : cX1_size.data.toList.drop 0 = dktX1_size_0 := by decide +kernel
theorem dX1_size_0 : decode cX1_size 0 = .ok (.aload_n 0, 1) := dk_42 (dk_at dksX1_size_0 0 rfl rfl)
theorem dX1_size_1 : decode cX1_size 1 = .ok (.iload_n 1, 1) := dk_27 (dk_at dksX1_size_0 1 rfl rfl)
theorem dX1_size_2 : decode cX1_size 2 = .ok (.invokevirtual 179, 3) := dk_182 0 179 (dk_at dksX1_size_0 2 rfl rfl)
theorem dX1_size_5 : decode cX1_size 5 = .ok (.getfield 380, 3) := dk_180 1 124 (dk_at dksX1_size_0 5 rfl rfl)
theorem dX1_size_8 : decode cX1_size 8 = .ok (.ireturn, 1) := dk_172 (dk_at dksX1_size_0 8 rfl rfl)
abbrev cX1_answersAnew : ByteArray := prog_1_method_69_code
def yX1_answersAnew : MethodName := ⟨RX1, "answersAnew", "()I"⟩
def dkwX1_answersAnew_0 : List UInt8 := [42, 182, 2, 8, 180, 1, 218, 182, 0, 3, 172]
abbrev dktX1_answersAnew_0 : List UInt8 := dkwX1_answersAnew_0 ++ []
theorem dksX1_answersAnew_0 : cX1_answersAnew.data.toList.drop 0 = dktX1_answersAnew_0 := by decide +kernel
theorem dX1_answersAnew_0 : decode cX1_answersAnew 0 = .ok (.aload_n 0, 1) := dk_42 (dk_at dksX1_answersAnew_0 0 rfl rfl)
theorem dX1_answersAnew_1 : decode cX1_answersAnew 1 = .ok (.invokevirtual 520, 3) := dk_182 2 8 (dk_at dksX1_answersAnew_0 1 rfl rfl)
theorem dX1_answersAnew_4 : decode cX1_answersAnew 4 = .ok (.getfield 474, 3) := dk_180 1 218 (dk_at dksX1_answersAnew_0 4 rfl rfl)
theorem dX1_answersAnew_7 : decode cX1_answersAnew 7 = .ok (.invokevirtual 3, 3) := dk_182 0 3 (dk_at dksX1_answersAnew_0 7 rfl rfl)
theorem dX1_answersAnew_10 : decode cX1_answersAnew 10 = .ok (.ireturn, 1) := dk_172 (dk_at dksX1_answersAnew_0 10 rfl rfl)
abbrev cX1_anew : ByteArray := prog_1_method_68_code
def yX1_anew : MethodName := ⟨RX1, "anew", "()LQueryHarbor$Answer;"⟩
def dkwX1_anew_4 : List UInt8 := [183, 0, 83, 77, 42, 43, 44, 182, 1, 252, 42, 44, 182, 2, 0, 44, 176]
abbrev dktX1_anew_4 : List UInt8 := dkwX1_anew_4 ++ []
def dkwX1_anew_3 : List UInt8 := [45, 182, 1, 174, 43, 45, 180, 1, 104, 182, 0, 165, 87, 132, 2, 1, 167, 255, 208, 187, 0, 81, 89]
abbrev dktX1_anew_3 : List UInt8 := dkwX1_anew_3 ++ dktX1_anew_4
def dkwX1_anew_2 : List UInt8 := [162, 0, 43, 187, 1, 86, 89, 42, 28, 183, 1, 223, 78, 45, 45, 180, 1, 85, 180, 0, 193, 181, 1, 104]
abbrev dktX1_anew_2 : List UInt8 := dkwX1_anew_2 ++ dktX1_anew_3
def dkwX1_anew_1 : List UInt8 := [3, 184, 0, 207, 187, 0, 4, 89, 183, 0, 54, 76, 3, 61, 28, 42, 180, 0, 62, 182, 0, 3]
abbrev dktX1_anew_1 : List UInt8 := dkwX1_anew_1 ++ dktX1_anew_2
def dkwX1_anew_0 : List UInt8 := [42, 180, 0, 62, 182, 1, 121, 154, 0, 17, 42, 180, 0, 71, 182, 1, 121, 154, 0, 7, 4, 167, 0, 4]
abbrev dktX1_anew_0 : List UInt8 := dkwX1_anew_0 ++ dktX1_anew_1
theorem dksX1_anew_0 : cX1_anew.data.toList.drop 0 = dktX1_anew_0 := by decide +kernel
theorem dksX1_anew_1 : cX1_anew.data.toList.drop 24 = dktX1_anew_1 := dk_seg dksX1_anew_0 24 rfl rfl
theorem dksX1_anew_2 : cX1_anew.data.toList.drop 46 = dktX1_anew_2 := dk_seg dksX1_anew_1 22 rfl rfl
theorem dksX1_anew_3 : cX1_anew.data.toList.drop 70 = dktX1_anew_3 := dk_seg dksX1_anew_2 24 rfl rfl
theorem dksX1_anew_4 : cX1_anew.data.toList.drop 93 = dktX1_anew_4 := dk_seg dksX1_anew_3 23 rfl rfl
theorem dX1_anew_0 : decode cX1_anew 0 = .ok (.aload_n 0, 1) := dk_42 (dk_at dksX1_anew_0 0 rfl rfl)
theorem dX1_anew_1 : decode cX1_anew 1 = .ok (.getfield 62, 3) := dk_180 0 62 (dk_at dksX1_anew_0 1 rfl rfl)
theorem dX1_anew_4 : decode cX1_anew 4 = .ok (.invokevirtual 377, 3) := dk_182 1 121 (dk_at dksX1_anew_0 4 rfl rfl)
theorem dX1_anew_7 : decode cX1_anew 7 = .ok (.ifCond .ne 17, 3) := dk_154 0 17 (dk_at dksX1_anew_0 7 rfl rfl)
theorem dX1_anew_10 : decode cX1_anew 10 = .ok (.aload_n 0, 1) := dk_42 (dk_at dksX1_anew_0 10 rfl rfl)
theorem dX1_anew_11 : decode cX1_anew 11 = .ok (.getfield 71, 3) := dk_180 0 71 (dk_at dksX1_anew_0 11 rfl rfl)
theorem dX1_anew_14 : decode cX1_anew 14 = .ok (.invokevirtual 377, 3) := dk_182 1 121 (dk_at dksX1_anew_0 14 rfl rfl)
theorem dX1_anew_17 : decode cX1_anew 17 = .ok (.ifCond .ne 7, 3) := dk_154 0 7 (dk_at dksX1_anew_0 17 rfl rfl)
theorem dX1_anew_20 : decode cX1_anew 20 = .ok (.iconst 1, 1) := dk_4 (dk_at dksX1_anew_0 20 rfl rfl)
theorem dX1_anew_21 : decode cX1_anew 21 = .ok (.goto 4, 3) := dk_167 0 4 (dk_at dksX1_anew_0 21 rfl rfl)
theorem dX1_anew_24 : decode cX1_anew 24 = .ok (.iconst 0, 1) := dk_3 (dk_at dksX1_anew_1 0 rfl rfl)
theorem dX1_anew_25 : decode cX1_anew 25 = .ok (.invokestatic 207, 3) := dk_184 0 207 (dk_at dksX1_anew_1 1 rfl rfl)
theorem dX1_anew_28 : decode cX1_anew 28 = .ok (.new 4, 3) := dk_187 0 4 (dk_at dksX1_anew_1 4 rfl rfl)
theorem dX1_anew_31 : decode cX1_anew 31 = .ok (.dup, 1) := dk_89 (dk_at dksX1_anew_1 7 rfl rfl)
theorem dX1_anew_32 : decode cX1_anew 32 = .ok (.invokespecial 54, 3) := dk_183 0 54 (dk_at dksX1_anew_1 8 rfl rfl)
theorem dX1_anew_35 : decode cX1_anew 35 = .ok (.astore_n 1, 1) := dk_76 (dk_at dksX1_anew_1 11 rfl rfl)
theorem dX1_anew_36 : decode cX1_anew 36 = .ok (.iconst 0, 1) := dk_3 (dk_at dksX1_anew_1 12 rfl rfl)
theorem dX1_anew_37 : decode cX1_anew 37 = .ok (.istore_n 2, 1) := dk_61 (dk_at dksX1_anew_1 13 rfl rfl)
theorem dX1_anew_38 : decode cX1_anew 38 = .ok (.iload_n 2, 1) := dk_28 (dk_at dksX1_anew_1 14 rfl rfl)
theorem dX1_anew_39 : decode cX1_anew 39 = .ok (.aload_n 0, 1) := dk_42 (dk_at dksX1_anew_1 15 rfl rfl)
theorem dX1_anew_40 : decode cX1_anew 40 = .ok (.getfield 62, 3) := dk_180 0 62 (dk_at dksX1_anew_1 16 rfl rfl)
theorem dX1_anew_43 : decode cX1_anew 43 = .ok (.invokevirtual 3, 3) := dk_182 0 3 (dk_at dksX1_anew_1 19 rfl rfl)
theorem dX1_anew_46 : decode cX1_anew 46 = .ok (.if_icmp .ge 43, 3) := dk_162 0 43 (dk_at dksX1_anew_2 0 rfl rfl)
theorem dX1_anew_49 : decode cX1_anew 49 = .ok (.new 342, 3) := dk_187 1 86 (dk_at dksX1_anew_2 3 rfl rfl)
theorem dX1_anew_52 : decode cX1_anew 52 = .ok (.dup, 1) := dk_89 (dk_at dksX1_anew_2 6 rfl rfl)
theorem dX1_anew_53 : decode cX1_anew 53 = .ok (.aload_n 0, 1) := dk_42 (dk_at dksX1_anew_2 7 rfl rfl)
theorem dX1_anew_54 : decode cX1_anew 54 = .ok (.iload_n 2, 1) := dk_28 (dk_at dksX1_anew_2 8 rfl rfl)
theorem dX1_anew_55 : decode cX1_anew 55 = .ok (.invokespecial 479, 3) := dk_183 1 223 (dk_at dksX1_anew_2 9 rfl rfl)
theorem dX1_anew_58 : decode cX1_anew 58 = .ok (.astore_n 3, 1) := dk_78 (dk_at dksX1_anew_2 12 rfl rfl)
theorem dX1_anew_59 : decode cX1_anew 59 = .ok (.aload_n 3, 1) := dk_45 (dk_at dksX1_anew_2 13 rfl rfl)
theorem dX1_anew_60 : decode cX1_anew 60 = .ok (.aload_n 3, 1) := dk_45 (dk_at dksX1_anew_2 14 rfl rfl)
theorem dX1_anew_61 : decode cX1_anew 61 = .ok (.getfield 341, 3) := dk_180 1 85 (dk_at dksX1_anew_2 15 rfl rfl)
theorem dX1_anew_64 : decode cX1_anew 64 = .ok (.getfield 193, 3) := dk_180 0 193 (dk_at dksX1_anew_2 18 rfl rfl)
theorem dX1_anew_67 : decode cX1_anew 67 = .ok (.putfield 360, 3) := dk_181 1 104 (dk_at dksX1_anew_2 21 rfl rfl)
theorem dX1_anew_70 : decode cX1_anew 70 = .ok (.aload_n 3, 1) := dk_45 (dk_at dksX1_anew_3 0 rfl rfl)
theorem dX1_anew_71 : decode cX1_anew 71 = .ok (.invokevirtual 430, 3) := dk_182 1 174 (dk_at dksX1_anew_3 1 rfl rfl)
theorem dX1_anew_74 : decode cX1_anew 74 = .ok (.aload_n 1, 1) := dk_43 (dk_at dksX1_anew_3 4 rfl rfl)
theorem dX1_anew_75 : decode cX1_anew 75 = .ok (.aload_n 3, 1) := dk_45 (dk_at dksX1_anew_3 5 rfl rfl)
theorem dX1_anew_76 : decode cX1_anew 76 = .ok (.getfield 360, 3) := dk_180 1 104 (dk_at dksX1_anew_3 6 rfl rfl)
theorem dX1_anew_79 : decode cX1_anew 79 = .ok (.invokevirtual 165, 3) := dk_182 0 165 (dk_at dksX1_anew_3 9 rfl rfl)
theorem dX1_anew_82 : decode cX1_anew 82 = .ok (.pop, 1) := dk_87 (dk_at dksX1_anew_3 12 rfl rfl)
theorem dX1_anew_83 : decode cX1_anew 83 = .ok (.iinc 2 1, 3) := dk_132 2 1 (dk_at dksX1_anew_3 13 rfl rfl)
theorem dX1_anew_86 : decode cX1_anew 86 = .ok (.goto (-48), 3) := dk_167 255 208 (dk_at dksX1_anew_3 16 rfl rfl)
theorem dX1_anew_89 : decode cX1_anew 89 = .ok (.new 81, 3) := dk_187 0 81 (dk_at dksX1_anew_3 19 rfl rfl)
theorem dX1_anew_92 : decode cX1_anew 92 = .ok (.dup, 1) := dk_89 (dk_at dksX1_anew_3 22 rfl rfl)
theorem dX1_anew_93 : decode cX1_anew 93 = .ok (.invokespecial 83, 3) := dk_183 0 83 (dk_at dksX1_anew_4 0 rfl rfl)
theorem dX1_anew_96 : decode cX1_anew 96 = .ok (.astore_n 2, 1) := dk_77 (dk_at dksX1_anew_4 3 rfl rfl)
theorem dX1_anew_97 : decode cX1_anew 97 = .ok (.aload_n 0, 1) := dk_42 (dk_at dksX1_anew_4 4 rfl rfl)
theorem dX1_anew_98 : decode cX1_anew 98 = .ok (.aload_n 1, 1) := dk_43 (dk_at dksX1_anew_4 5 rfl rfl)
theorem dX1_anew_99 : decode cX1_anew 99 = .ok (.aload_n 2, 1) := dk_44 (dk_at dksX1_anew_4 6 rfl rfl)
theorem dX1_anew_100 : decode cX1_anew 100 = .ok (.invokevirtual 508, 3) := dk_182 1 252 (dk_at dksX1_anew_4 7 rfl rfl)
theorem dX1_anew_103 : decode cX1_anew 103 = .ok (.aload_n 0, 1) := dk_42 (dk_at dksX1_anew_4 10 rfl rfl)
theorem dX1_anew_104 : decode cX1_anew 104 = .ok (.aload_n 2, 1) := dk_44 (dk_at dksX1_anew_4 11 rfl rfl)
theorem dX1_anew_105 : decode cX1_anew 105 = .ok (.invokevirtual 512, 3) := dk_182 2 0 (dk_at dksX1_anew_4 12 rfl rfl)
theorem dX1_anew_108 : decode cX1_anew 108 = .ok (.aload_n 2, 1) := dk_44 (dk_at dksX1_anew_4 15 rfl rfl)
theorem dX1_anew_109 : decode cX1_anew 109 = .ok (.areturn, 1) := dk_176 (dk_at dksX1_anew_4 16 rfl rfl)
abbrev cX1_answerAnew : ByteArray := prog_1_method_70_code
def yX1_answerAnew : MethodName := ⟨RX1, "answerAnew", "(II)I"⟩
def dkwX1_answerAnew_0 : List UInt8 := [42, 42, 182, 2, 8, 27, 28, 182, 2, 4, 172]
abbrev dktX1_answerAnew_0 : List UInt8 := dkwX1_answerAnew_0 ++ []
theorem dksX1_answerAnew_0 : cX1_answerAnew.data.toList.drop 0 = dktX1_answerAnew_0 := by decide +kernel
theorem dX1_answerAnew_0 : decode cX1_answerAnew 0 = .ok (.aload_n 0, 1) := dk_42 (dk_at dksX1_answerAnew_0 0 rfl rfl)
theorem dX1_answerAnew_1 : decode cX1_answerAnew 1 = .ok (.aload_n 0, 1) := dk_42 (dk_at dksX1_answerAnew_0 1 rfl rfl)
theorem dX1_answerAnew_2 : decode cX1_answerAnew 2 = .ok (.invokevirtual 520, 3) := dk_182 2 8 (dk_at dksX1_answerAnew_0 2 rfl rfl)
theorem dX1_answerAnew_5 : decode cX1_answerAnew 5 = .ok (.iload_n 1, 1) := dk_27 (dk_at dksX1_answerAnew_0 5 rfl rfl)
theorem dX1_answerAnew_6 : decode cX1_answerAnew 6 = .ok (.iload_n 2, 1) := dk_28 (dk_at dksX1_answerAnew_0 6 rfl rfl)
theorem dX1_answerAnew_7 : decode cX1_answerAnew 7 = .ok (.invokevirtual 516, 3) := dk_182 2 4 (dk_at dksX1_answerAnew_0 7 rfl rfl)
theorem dX1_answerAnew_10 : decode cX1_answerAnew 10 = .ok (.ireturn, 1) := dk_172 (dk_at dksX1_answerAnew_0 10 rfl rfl)
abbrev cX1_step_2 : ByteArray := prog_1_method_71_code
def yX1_step_2 : MethodName := ⟨RX1, "step", "(IIIIII)I"⟩
def dkwX1_step_2_4 : List UInt8 := [89, 8, 21, 6, 79, 182, 0, 165, 87, 42, 180, 0, 74, 182, 0, 3, 172]
abbrev dktX1_step_2_4 : List UInt8 := dkwX1_step_2_4 ++ []
def dkwX1_step_2_3 : List UInt8 := [188, 10, 89, 3, 27, 79, 89, 4, 28, 79, 89, 5, 29, 79, 89, 6, 21, 4, 79, 89, 7, 21, 5, 79]
abbrev dktX1_step_2_3 : List UInt8 := dkwX1_step_2_3 ++ dktX1_step_2_4
def dkwX1_step_2_2 : List UInt8 := [180, 0, 74, 182, 0, 3, 7, 162, 0, 7, 4, 167, 0, 4, 3, 184, 0, 207, 42, 180, 0, 74, 16, 6]
abbrev dktX1_step_2_2 : List UInt8 := dkwX1_step_2_2 ++ dktX1_step_2_3
def dkwX1_step_2_1 : List UInt8 := [159, 0, 13, 21, 4, 154, 0, 12, 21, 5, 154, 0, 7, 4, 167, 0, 4, 3, 184, 0, 103, 42]
abbrev dktX1_step_2_1 : List UInt8 := dkwX1_step_2_1 ++ dktX1_step_2_2
def dkwX1_step_2_0 : List UInt8 := [28, 16, 6, 184, 0, 112, 87, 27, 3, 5, 184, 1, 3, 27, 153, 0, 23, 21, 6, 154, 0, 22, 27, 4]
abbrev dktX1_step_2_0 : List UInt8 := dkwX1_step_2_0 ++ dktX1_step_2_1
theorem dksX1_step_2_0 : cX1_step_2.data.toList.drop 0 = dktX1_step_2_0 := by decide +kernel
theorem dksX1_step_2_1 : cX1_step_2.data.toList.drop 24 = dktX1_step_2_1 := dk_seg dksX1_step_2_0 24 rfl rfl
theorem dksX1_step_2_2 : cX1_step_2.data.toList.drop 46 = dktX1_step_2_2 := dk_seg dksX1_step_2_1 22 rfl rfl
theorem dksX1_step_2_3 : cX1_step_2.data.toList.drop 70 = dktX1_step_2_3 := dk_seg dksX1_step_2_2 24 rfl rfl
theorem dksX1_step_2_4 : cX1_step_2.data.toList.drop 94 = dktX1_step_2_4 := dk_seg dksX1_step_2_3 24 rfl rfl
theorem dX1_step_2_0 : decode cX1_step_2 0 = .ok (.iload_n 2, 1) := dk_28 (dk_at dksX1_step_2_0 0 rfl rfl)
theorem dX1_step_2_1 : decode cX1_step_2 1 = .ok (.bipush 6, 2) := dk_16 6 (dk_at dksX1_step_2_0 1 rfl rfl)
theorem dX1_step_2_3 : decode cX1_step_2 3 = .ok (.invokestatic 112, 3) := dk_184 0 112 (dk_at dksX1_step_2_0 3 rfl rfl)
theorem dX1_step_2_6 : decode cX1_step_2 6 = .ok (.pop, 1) := dk_87 (dk_at dksX1_step_2_0 6 rfl rfl)
theorem dX1_step_2_7 : decode cX1_step_2 7 = .ok (.iload_n 1, 1) := dk_27 (dk_at dksX1_step_2_0 7 rfl rfl)
theorem dX1_step_2_8 : decode cX1_step_2 8 = .ok (.iconst 0, 1) := dk_3 (dk_at dksX1_step_2_0 8 rfl rfl)
theorem dX1_step_2_9 : decode cX1_step_2 9 = .ok (.iconst 2, 1) := dk_5 (dk_at dksX1_step_2_0 9 rfl rfl)
theorem dX1_step_2_10 : decode cX1_step_2 10 = .ok (.invokestatic 259, 3) := dk_184 1 3 (dk_at dksX1_step_2_0 10 rfl rfl)
theorem dX1_step_2_13 : decode cX1_step_2 13 = .ok (.iload_n 1, 1) := dk_27 (dk_at dksX1_step_2_0 13 rfl rfl)
theorem dX1_step_2_14 : decode cX1_step_2 14 = .ok (.ifCond .eq 23, 3) := dk_153 0 23 (dk_at dksX1_step_2_0 14 rfl rfl)
theorem dX1_step_2_17 : decode cX1_step_2 17 = .ok (.iload 6, 2) := dk_21 6 (dk_at dksX1_step_2_0 17 rfl rfl)
theorem dX1_step_2_19 : decode cX1_step_2 19 = .ok (.ifCond .ne 22, 3) := dk_154 0 22 (dk_at dksX1_step_2_0 19 rfl rfl)
theorem dX1_step_2_22 : decode cX1_step_2 22 = .ok (.iload_n 1, 1) := dk_27 (dk_at dksX1_step_2_0 22 rfl rfl)
theorem dX1_step_2_23 : decode cX1_step_2 23 = .ok (.iconst 1, 1) := dk_4 (dk_at dksX1_step_2_0 23 rfl rfl)
theorem dX1_step_2_24 : decode cX1_step_2 24 = .ok (.if_icmp .eq 13, 3) := dk_159 0 13 (dk_at dksX1_step_2_1 0 rfl rfl)
theorem dX1_step_2_27 : decode cX1_step_2 27 = .ok (.iload 4, 2) := dk_21 4 (dk_at dksX1_step_2_1 3 rfl rfl)
theorem dX1_step_2_29 : decode cX1_step_2 29 = .ok (.ifCond .ne 12, 3) := dk_154 0 12 (dk_at dksX1_step_2_1 5 rfl rfl)
theorem dX1_step_2_32 : decode cX1_step_2 32 = .ok (.iload 5, 2) := dk_21 5 (dk_at dksX1_step_2_1 8 rfl rfl)
theorem dX1_step_2_34 : decode cX1_step_2 34 = .ok (.ifCond .ne 7, 3) := dk_154 0 7 (dk_at dksX1_step_2_1 10 rfl rfl)
theorem dX1_step_2_37 : decode cX1_step_2 37 = .ok (.iconst 1, 1) := dk_4 (dk_at dksX1_step_2_1 13 rfl rfl)
theorem dX1_step_2_38 : decode cX1_step_2 38 = .ok (.goto 4, 3) := dk_167 0 4 (dk_at dksX1_step_2_1 14 rfl rfl)
theorem dX1_step_2_41 : decode cX1_step_2 41 = .ok (.iconst 0, 1) := dk_3 (dk_at dksX1_step_2_1 17 rfl rfl)
theorem dX1_step_2_42 : decode cX1_step_2 42 = .ok (.invokestatic 103, 3) := dk_184 0 103 (dk_at dksX1_step_2_1 18 rfl rfl)
theorem dX1_step_2_45 : decode cX1_step_2 45 = .ok (.aload_n 0, 1) := dk_42 (dk_at dksX1_step_2_1 21 rfl rfl)
theorem dX1_step_2_46 : decode cX1_step_2 46 = .ok (.getfield 74, 3) := dk_180 0 74 (dk_at dksX1_step_2_2 0 rfl rfl)
theorem dX1_step_2_49 : decode cX1_step_2 49 = .ok (.invokevirtual 3, 3) := dk_182 0 3 (dk_at dksX1_step_2_2 3 rfl rfl)
theorem dX1_step_2_52 : decode cX1_step_2 52 = .ok (.iconst 4, 1) := dk_7 (dk_at dksX1_step_2_2 6 rfl rfl)
theorem dX1_step_2_53 : decode cX1_step_2 53 = .ok (.if_icmp .ge 7, 3) := dk_162 0 7 (dk_at dksX1_step_2_2 7 rfl rfl)
theorem dX1_step_2_56 : decode cX1_step_2 56 = .ok (.iconst 1, 1) := dk_4 (dk_at dksX1_step_2_2 10 rfl rfl)
theorem dX1_step_2_57 : decode cX1_step_2 57 = .ok (.goto 4, 3) := dk_167 0 4 (dk_at dksX1_step_2_2 11 rfl rfl)
theorem dX1_step_2_60 : decode cX1_step_2 60 = .ok (.iconst 0, 1) := dk_3 (dk_at dksX1_step_2_2 14 rfl rfl)
theorem dX1_step_2_61 : decode cX1_step_2 61 = .ok (.invokestatic 207, 3) := dk_184 0 207 (dk_at dksX1_step_2_2 15 rfl rfl)
theorem dX1_step_2_64 : decode cX1_step_2 64 = .ok (.aload_n 0, 1) := dk_42 (dk_at dksX1_step_2_2 18 rfl rfl)
theorem dX1_step_2_65 : decode cX1_step_2 65 = .ok (.getfield 74, 3) := dk_180 0 74 (dk_at dksX1_step_2_2 19 rfl rfl)
theorem dX1_step_2_68 : decode cX1_step_2 68 = .ok (.bipush 6, 2) := dk_16 6 (dk_at dksX1_step_2_2 22 rfl rfl)
theorem dX1_step_2_70 : decode cX1_step_2 70 = .ok (.newarray .int, 2) := dk_188_10 (dk_at dksX1_step_2_3 0 rfl rfl)
theorem dX1_step_2_72 : decode cX1_step_2 72 = .ok (.dup, 1) := dk_89 (dk_at dksX1_step_2_3 2 rfl rfl)
theorem dX1_step_2_73 : decode cX1_step_2 73 = .ok (.iconst 0, 1) := dk_3 (dk_at dksX1_step_2_3 3 rfl rfl)
theorem dX1_step_2_74 : decode cX1_step_2 74 = .ok (.iload_n 1, 1) := dk_27 (dk_at dksX1_step_2_3 4 rfl rfl)
theorem dX1_step_2_75 : decode cX1_step_2 75 = .ok (.iastore, 1) := dk_79 (dk_at dksX1_step_2_3 5 rfl rfl)
theorem dX1_step_2_76 : decode cX1_step_2 76 = .ok (.dup, 1) := dk_89 (dk_at dksX1_step_2_3 6 rfl rfl)
theorem dX1_step_2_77 : decode cX1_step_2 77 = .ok (.iconst 1, 1) := dk_4 (dk_at dksX1_step_2_3 7 rfl rfl)
theorem dX1_step_2_78 : decode cX1_step_2 78 = .ok (.iload_n 2, 1) := dk_28 (dk_at dksX1_step_2_3 8 rfl rfl)
theorem dX1_step_2_79 : decode cX1_step_2 79 = .ok (.iastore, 1) := dk_79 (dk_at dksX1_step_2_3 9 rfl rfl)
theorem dX1_step_2_80 : decode cX1_step_2 80 = .ok (.dup, 1) := dk_89 (dk_at dksX1_step_2_3 10 rfl rfl)
theorem dX1_step_2_81 : decode cX1_step_2 81 = .ok (.iconst 2, 1) := dk_5 (dk_at dksX1_step_2_3 11 rfl rfl)
theorem dX1_step_2_82 : decode cX1_step_2 82 = .ok (.iload_n 3, 1) := dk_29 (dk_at dksX1_step_2_3 12 rfl rfl)
theorem dX1_step_2_83 : decode cX1_step_2 83 = .ok (.iastore, 1) := dk_79 (dk_at dksX1_step_2_3 13 rfl rfl)
theorem dX1_step_2_84 : decode cX1_step_2 84 = .ok (.dup, 1) := dk_89 (dk_at dksX1_step_2_3 14 rfl rfl)
theorem dX1_step_2_85 : decode cX1_step_2 85 = .ok (.iconst 3, 1) := dk_6 (dk_at dksX1_step_2_3 15 rfl rfl)
theorem dX1_step_2_86 : decode cX1_step_2 86 = .ok (.iload 4, 2) := dk_21 4 (dk_at dksX1_step_2_3 16 rfl rfl)
theorem dX1_step_2_88 : decode cX1_step_2 88 = .ok (.iastore, 1) := dk_79 (dk_at dksX1_step_2_3 18 rfl rfl)
theorem dX1_step_2_89 : decode cX1_step_2 89 = .ok (.dup, 1) := dk_89 (dk_at dksX1_step_2_3 19 rfl rfl)
theorem dX1_step_2_90 : decode cX1_step_2 90 = .ok (.iconst 4, 1) := dk_7 (dk_at dksX1_step_2_3 20 rfl rfl)
theorem dX1_step_2_91 : decode cX1_step_2 91 = .ok (.iload 5, 2) := dk_21 5 (dk_at dksX1_step_2_3 21 rfl rfl)
theorem dX1_step_2_93 : decode cX1_step_2 93 = .ok (.iastore, 1) := dk_79 (dk_at dksX1_step_2_3 23 rfl rfl)
theorem dX1_step_2_94 : decode cX1_step_2 94 = .ok (.dup, 1) := dk_89 (dk_at dksX1_step_2_4 0 rfl rfl)
theorem dX1_step_2_95 : decode cX1_step_2 95 = .ok (.iconst 5, 1) := dk_8 (dk_at dksX1_step_2_4 1 rfl rfl)
theorem dX1_step_2_96 : decode cX1_step_2 96 = .ok (.iload 6, 2) := dk_21 6 (dk_at dksX1_step_2_4 2 rfl rfl)
theorem dX1_step_2_98 : decode cX1_step_2 98 = .ok (.iastore, 1) := dk_79 (dk_at dksX1_step_2_4 4 rfl rfl)
theorem dX1_step_2_99 : decode cX1_step_2 99 = .ok (.invokevirtual 165, 3) := dk_182 0 165 (dk_at dksX1_step_2_4 5 rfl rfl)
theorem dX1_step_2_102 : decode cX1_step_2 102 = .ok (.pop, 1) := dk_87 (dk_at dksX1_step_2_4 8 rfl rfl)
theorem dX1_step_2_103 : decode cX1_step_2 103 = .ok (.aload_n 0, 1) := dk_42 (dk_at dksX1_step_2_4 9 rfl rfl)
theorem dX1_step_2_104 : decode cX1_step_2 104 = .ok (.getfield 74, 3) := dk_180 0 74 (dk_at dksX1_step_2_4 10 rfl rfl)
theorem dX1_step_2_107 : decode cX1_step_2 107 = .ok (.invokevirtual 3, 3) := dk_182 0 3 (dk_at dksX1_step_2_4 13 rfl rfl)
theorem dX1_step_2_110 : decode cX1_step_2 110 = .ok (.ireturn, 1) := dk_172 (dk_at dksX1_step_2_4 16 rfl rfl)
abbrev cX1_run : ByteArray := prog_1_method_75_code
def yX1_run : MethodName := ⟨RX1, "run", "()I"⟩
def dkwX1_run_5 : List UInt8 := [172]
abbrev dktX1_run_5 : List UInt8 := dkwX1_run_5 ++ []
def dkwX1_run_4 : List UInt8 := [29, 182, 0, 9, 192, 2, 15, 182, 2, 37, 132, 3, 255, 167, 255, 233, 42, 180, 0, 74, 182, 1, 49, 28]
abbrev dktX1_run_4 : List UInt8 := dkwX1_run_4 ++ dktX1_run_5
def dkwX1_run_3 : List UInt8 := [61, 132, 3, 1, 167, 255, 212, 43, 182, 0, 3, 4, 100, 62, 29, 155, 0, 25, 28, 2, 159, 0, 20, 43]
abbrev dktX1_run_3 : List UInt8 := dkwX1_run_3 ++ dktX1_run_4
def dkwX1_run_2 : List UInt8 := [42, 42, 180, 0, 74, 29, 182, 0, 9, 192, 1, 219, 43, 182, 2, 33, 153, 0, 7, 2, 167, 0, 4, 29]
abbrev dktX1_run_2 : List UInt8 := dkwX1_run_2 ++ dktX1_run_3
def dkwX1_run_1 : List UInt8 := [183, 0, 54, 76, 2, 61, 3, 62, 29, 42, 180, 0, 74, 182, 0, 3, 162, 0, 39, 28, 2, 160, 0, 34]
abbrev dktX1_run_1 : List UInt8 := dkwX1_run_1 ++ dktX1_run_2
def dkwX1_run_0 : List UInt8 := [42, 180, 0, 74, 182, 1, 121, 154, 0, 7, 4, 167, 0, 4, 3, 184, 0, 207, 187, 0, 4, 89]
abbrev dktX1_run_0 : List UInt8 := dkwX1_run_0 ++ dktX1_run_1
theorem dksX1_run_0 : cX1_run.data.toList.drop 0 = dktX1_run_0 := by decide +kernel
theorem dksX1_run_1 : cX1_run.data.toList.drop 22 = dktX1_run_1 := dk_seg dksX1_run_0 22 rfl rfl
theorem dksX1_run_2 : cX1_run.data.toList.drop 46 = dktX1_run_2 := dk_seg dksX1_run_1 24 rfl rfl
theorem dksX1_run_3 : cX1_run.data.toList.drop 70 = dktX1_run_3 := dk_seg dksX1_run_2 24 rfl rfl
theorem dksX1_run_4 : cX1_run.data.toList.drop 94 = dktX1_run_4 := dk_seg dksX1_run_3 24 rfl rfl
theorem dksX1_run_5 : cX1_run.data.toList.drop 118 = dktX1_run_5 := dk_seg dksX1_run_4 24 rfl rfl
theorem dX1_run_0 : decode cX1_run 0 = .ok (.aload_n 0, 1) := dk_42 (dk_at dksX1_run_0 0 rfl rfl)
theorem dX1_run_1 : decode cX1_run 1 = .ok (.getfield 74, 3) := dk_180 0 74 (dk_at dksX1_run_0 1 rfl rfl)
theorem dX1_run_4 : decode cX1_run 4 = .ok (.invokevirtual 377, 3) := dk_182 1 121 (dk_at dksX1_run_0 4 rfl rfl)
theorem dX1_run_7 : decode cX1_run 7 = .ok (.ifCond .ne 7, 3) := dk_154 0 7 (dk_at dksX1_run_0 7 rfl rfl)
theorem dX1_run_10 : decode cX1_run 10 = .ok (.iconst 1, 1) := dk_4 (dk_at dksX1_run_0 10 rfl rfl)
theorem dX1_run_11 : decode cX1_run 11 = .ok (.goto 4, 3) := dk_167 0 4 (dk_at dksX1_run_0 11 rfl rfl)
theorem dX1_run_14 : decode cX1_run 14 = .ok (.iconst 0, 1) := dk_3 (dk_at dksX1_run_0 14 rfl rfl)
theorem dX1_run_15 : decode cX1_run 15 = .ok (.invokestatic 207, 3) := dk_184 0 207 (dk_at dksX1_run_0 15 rfl rfl)
theorem dX1_run_18 : decode cX1_run 18 = .ok (.new 4, 3) := dk_187 0 4 (dk_at dksX1_run_0 18 rfl rfl)
theorem dX1_run_21 : decode cX1_run 21 = .ok (.dup, 1) := dk_89 (dk_at dksX1_run_0 21 rfl rfl)
theorem dX1_run_22 : decode cX1_run 22 = .ok (.invokespecial 54, 3) := dk_183 0 54 (dk_at dksX1_run_1 0 rfl rfl)
theorem dX1_run_25 : decode cX1_run 25 = .ok (.astore_n 1, 1) := dk_76 (dk_at dksX1_run_1 3 rfl rfl)
theorem dX1_run_26 : decode cX1_run 26 = .ok (.iconst (-1), 1) := dk_2 (dk_at dksX1_run_1 4 rfl rfl)
theorem dX1_run_27 : decode cX1_run 27 = .ok (.istore_n 2, 1) := dk_61 (dk_at dksX1_run_1 5 rfl rfl)
theorem dX1_run_28 : decode cX1_run 28 = .ok (.iconst 0, 1) := dk_3 (dk_at dksX1_run_1 6 rfl rfl)
theorem dX1_run_29 : decode cX1_run 29 = .ok (.istore_n 3, 1) := dk_62 (dk_at dksX1_run_1 7 rfl rfl)
theorem dX1_run_30 : decode cX1_run 30 = .ok (.iload_n 3, 1) := dk_29 (dk_at dksX1_run_1 8 rfl rfl)
theorem dX1_run_31 : decode cX1_run 31 = .ok (.aload_n 0, 1) := dk_42 (dk_at dksX1_run_1 9 rfl rfl)
theorem dX1_run_32 : decode cX1_run 32 = .ok (.getfield 74, 3) := dk_180 0 74 (dk_at dksX1_run_1 10 rfl rfl)
theorem dX1_run_35 : decode cX1_run 35 = .ok (.invokevirtual 3, 3) := dk_182 0 3 (dk_at dksX1_run_1 13 rfl rfl)
theorem dX1_run_38 : decode cX1_run 38 = .ok (.if_icmp .ge 39, 3) := dk_162 0 39 (dk_at dksX1_run_1 16 rfl rfl)
theorem dX1_run_41 : decode cX1_run 41 = .ok (.iload_n 2, 1) := dk_28 (dk_at dksX1_run_1 19 rfl rfl)
theorem dX1_run_42 : decode cX1_run 42 = .ok (.iconst (-1), 1) := dk_2 (dk_at dksX1_run_1 20 rfl rfl)
theorem dX1_run_43 : decode cX1_run 43 = .ok (.if_icmp .ne 34, 3) := dk_160 0 34 (dk_at dksX1_run_1 21 rfl rfl)
theorem dX1_run_46 : decode cX1_run 46 = .ok (.aload_n 0, 1) := dk_42 (dk_at dksX1_run_2 0 rfl rfl)
theorem dX1_run_47 : decode cX1_run 47 = .ok (.aload_n 0, 1) := dk_42 (dk_at dksX1_run_2 1 rfl rfl)
theorem dX1_run_48 : decode cX1_run 48 = .ok (.getfield 74, 3) := dk_180 0 74 (dk_at dksX1_run_2 2 rfl rfl)
theorem dX1_run_51 : decode cX1_run 51 = .ok (.iload_n 3, 1) := dk_29 (dk_at dksX1_run_2 5 rfl rfl)
theorem dX1_run_52 : decode cX1_run 52 = .ok (.invokevirtual 9, 3) := dk_182 0 9 (dk_at dksX1_run_2 6 rfl rfl)
theorem dX1_run_55 : decode cX1_run 55 = .ok (.checkcast 475, 3) := dk_192 1 219 (dk_at dksX1_run_2 9 rfl rfl)
theorem dX1_run_58 : decode cX1_run 58 = .ok (.aload_n 1, 1) := dk_43 (dk_at dksX1_run_2 12 rfl rfl)
theorem dX1_run_59 : decode cX1_run 59 = .ok (.invokevirtual 545, 3) := dk_182 2 33 (dk_at dksX1_run_2 13 rfl rfl)
theorem dX1_run_62 : decode cX1_run 62 = .ok (.ifCond .eq 7, 3) := dk_153 0 7 (dk_at dksX1_run_2 16 rfl rfl)
theorem dX1_run_65 : decode cX1_run 65 = .ok (.iconst (-1), 1) := dk_2 (dk_at dksX1_run_2 19 rfl rfl)
theorem dX1_run_66 : decode cX1_run 66 = .ok (.goto 4, 3) := dk_167 0 4 (dk_at dksX1_run_2 20 rfl rfl)
theorem dX1_run_69 : decode cX1_run 69 = .ok (.iload_n 3, 1) := dk_29 (dk_at dksX1_run_2 23 rfl rfl)
theorem dX1_run_70 : decode cX1_run 70 = .ok (.istore_n 2, 1) := dk_61 (dk_at dksX1_run_3 0 rfl rfl)
theorem dX1_run_71 : decode cX1_run 71 = .ok (.iinc 3 1, 3) := dk_132 3 1 (dk_at dksX1_run_3 1 rfl rfl)
theorem dX1_run_74 : decode cX1_run 74 = .ok (.goto (-44), 3) := dk_167 255 212 (dk_at dksX1_run_3 4 rfl rfl)
theorem dX1_run_77 : decode cX1_run 77 = .ok (.aload_n 1, 1) := dk_43 (dk_at dksX1_run_3 7 rfl rfl)
theorem dX1_run_78 : decode cX1_run 78 = .ok (.invokevirtual 3, 3) := dk_182 0 3 (dk_at dksX1_run_3 8 rfl rfl)
theorem dX1_run_81 : decode cX1_run 81 = .ok (.iconst 1, 1) := dk_4 (dk_at dksX1_run_3 11 rfl rfl)
theorem dX1_run_82 : decode cX1_run 82 = .ok (.isub, 1) := dk_100 (dk_at dksX1_run_3 12 rfl rfl)
theorem dX1_run_83 : decode cX1_run 83 = .ok (.istore_n 3, 1) := dk_62 (dk_at dksX1_run_3 13 rfl rfl)
theorem dX1_run_84 : decode cX1_run 84 = .ok (.iload_n 3, 1) := dk_29 (dk_at dksX1_run_3 14 rfl rfl)
theorem dX1_run_85 : decode cX1_run 85 = .ok (.ifCond .lt 25, 3) := dk_155 0 25 (dk_at dksX1_run_3 15 rfl rfl)
theorem dX1_run_88 : decode cX1_run 88 = .ok (.iload_n 2, 1) := dk_28 (dk_at dksX1_run_3 18 rfl rfl)
theorem dX1_run_89 : decode cX1_run 89 = .ok (.iconst (-1), 1) := dk_2 (dk_at dksX1_run_3 19 rfl rfl)
theorem dX1_run_90 : decode cX1_run 90 = .ok (.if_icmp .eq 20, 3) := dk_159 0 20 (dk_at dksX1_run_3 20 rfl rfl)
theorem dX1_run_93 : decode cX1_run 93 = .ok (.aload_n 1, 1) := dk_43 (dk_at dksX1_run_3 23 rfl rfl)
theorem dX1_run_94 : decode cX1_run 94 = .ok (.iload_n 3, 1) := dk_29 (dk_at dksX1_run_4 0 rfl rfl)
theorem dX1_run_95 : decode cX1_run 95 = .ok (.invokevirtual 9, 3) := dk_182 0 9 (dk_at dksX1_run_4 1 rfl rfl)
theorem dX1_run_98 : decode cX1_run 98 = .ok (.checkcast 527, 3) := dk_192 2 15 (dk_at dksX1_run_4 4 rfl rfl)
theorem dX1_run_101 : decode cX1_run 101 = .ok (.invokevirtual 549, 3) := dk_182 2 37 (dk_at dksX1_run_4 7 rfl rfl)
theorem dX1_run_104 : decode cX1_run 104 = .ok (.iinc 3 (-1), 3) := dk_132 3 255 (dk_at dksX1_run_4 10 rfl rfl)
theorem dX1_run_107 : decode cX1_run 107 = .ok (.goto (-23), 3) := dk_167 255 233 (dk_at dksX1_run_4 13 rfl rfl)
theorem dX1_run_110 : decode cX1_run 110 = .ok (.aload_n 0, 1) := dk_42 (dk_at dksX1_run_4 16 rfl rfl)
theorem dX1_run_111 : decode cX1_run 111 = .ok (.getfield 74, 3) := dk_180 0 74 (dk_at dksX1_run_4 17 rfl rfl)
theorem dX1_run_114 : decode cX1_run 114 = .ok (.invokevirtual 305, 3) := dk_182 1 49 (dk_at dksX1_run_4 20 rfl rfl)
theorem dX1_run_117 : decode cX1_run 117 = .ok (.iload_n 2, 1) := dk_28 (dk_at dksX1_run_4 23 rfl rfl)
theorem dX1_run_118 : decode cX1_run 118 = .ok (.ireturn, 1) := dk_172 (dk_at dksX1_run_5 0 rfl rfl)
abbrev cX1_isDone : ByteArray := prog_1_method_74_code
def yX1_isDone : MethodName := ⟨RX1, "isDone", "([ILjava/util/ArrayList;)Z"⟩
def dkwX1_isDone_4 : List UInt8 := [21, 7, 153, 0, 14, 25, 4, 198, 0, 7, 4, 167, 0, 4, 3, 172, 132, 6, 1, 167, 255, 168, 3, 172]
abbrev dktX1_isDone_4 : List UInt8 := dkwX1_isDone_4 ++ []
def dkwX1_isDone_3 : List UInt8 := [21, 8, 153, 0, 22, 42, 43, 182, 2, 29, 58, 4, 25, 4, 198, 0, 10, 44, 25, 4, 182, 0, 165, 87]
abbrev dktX1_isDone_3 : List UInt8 := dkwX1_isDone_3 ++ dktX1_isDone_4
def dkwX1_isDone_2 : List UInt8 := [25, 5, 182, 1, 79, 167, 0, 8, 58, 9, 3, 54, 7, 25, 4, 199, 0, 32, 21, 7, 154, 0, 8]
abbrev dktX1_isDone_2 : List UInt8 := dkwX1_isDone_2 ++ dktX1_isDone_3
def dkwX1_isDone_1 : List UInt8 := [54, 6, 21, 6, 6, 162, 0, 88, 4, 54, 7, 45, 180, 1, 18, 54, 8, 42, 45, 42, 180, 0, 116, 2]
abbrev dktX1_isDone_1 : List UInt8 := dkwX1_isDone_1 ++ dktX1_isDone_2
def dkwX1_isDone_0 : List UInt8 := [42, 180, 0, 39, 43, 4, 46, 5, 108, 50, 78, 1, 58, 4, 187, 0, 81, 89, 183, 0, 83, 58, 5, 3]
abbrev dktX1_isDone_0 : List UInt8 := dkwX1_isDone_0 ++ dktX1_isDone_1
theorem dksX1_isDone_0 : cX1_isDone.data.toList.drop 0 = dktX1_isDone_0 := by decide +kernel
theorem dksX1_isDone_1 : cX1_isDone.data.toList.drop 24 = dktX1_isDone_1 := dk_seg dksX1_isDone_0 24 rfl rfl
theorem dksX1_isDone_2 : cX1_isDone.data.toList.drop 48 = dktX1_isDone_2 := dk_seg dksX1_isDone_1 24 rfl rfl
theorem dksX1_isDone_3 : cX1_isDone.data.toList.drop 71 = dktX1_isDone_3 := dk_seg dksX1_isDone_2 23 rfl rfl
theorem dksX1_isDone_4 : cX1_isDone.data.toList.drop 95 = dktX1_isDone_4 := dk_seg dksX1_isDone_3 24 rfl rfl
theorem dX1_isDone_0 : decode cX1_isDone 0 = .ok (.aload_n 0, 1) := dk_42 (dk_at dksX1_isDone_0 0 rfl rfl)
theorem dX1_isDone_1 : decode cX1_isDone 1 = .ok (.getfield 39, 3) := dk_180 0 39 (dk_at dksX1_isDone_0 1 rfl rfl)
theorem dX1_isDone_4 : decode cX1_isDone 4 = .ok (.aload_n 1, 1) := dk_43 (dk_at dksX1_isDone_0 4 rfl rfl)
theorem dX1_isDone_5 : decode cX1_isDone 5 = .ok (.iconst 1, 1) := dk_4 (dk_at dksX1_isDone_0 5 rfl rfl)
theorem dX1_isDone_6 : decode cX1_isDone 6 = .ok (.iaload, 1) := dk_46 (dk_at dksX1_isDone_0 6 rfl rfl)
theorem dX1_isDone_7 : decode cX1_isDone 7 = .ok (.iconst 2, 1) := dk_5 (dk_at dksX1_isDone_0 7 rfl rfl)
theorem dX1_isDone_8 : decode cX1_isDone 8 = .ok (.idiv, 1) := dk_108 (dk_at dksX1_isDone_0 8 rfl rfl)
theorem dX1_isDone_9 : decode cX1_isDone 9 = .ok (.aaload, 1) := dk_50 (dk_at dksX1_isDone_0 9 rfl rfl)
theorem dX1_isDone_10 : decode cX1_isDone 10 = .ok (.astore_n 3, 1) := dk_78 (dk_at dksX1_isDone_0 10 rfl rfl)
theorem dX1_isDone_11 : decode cX1_isDone 11 = .ok (.aconst_null, 1) := dk_1 (dk_at dksX1_isDone_0 11 rfl rfl)
theorem dX1_isDone_12 : decode cX1_isDone 12 = .ok (.astore 4, 2) := dk_58 4 (dk_at dksX1_isDone_0 12 rfl rfl)
theorem dX1_isDone_14 : decode cX1_isDone 14 = .ok (.new 81, 3) := dk_187 0 81 (dk_at dksX1_isDone_0 14 rfl rfl)
theorem dX1_isDone_17 : decode cX1_isDone 17 = .ok (.dup, 1) := dk_89 (dk_at dksX1_isDone_0 17 rfl rfl)
theorem dX1_isDone_18 : decode cX1_isDone 18 = .ok (.invokespecial 83, 3) := dk_183 0 83 (dk_at dksX1_isDone_0 18 rfl rfl)
theorem dX1_isDone_21 : decode cX1_isDone 21 = .ok (.astore 5, 2) := dk_58 5 (dk_at dksX1_isDone_0 21 rfl rfl)
theorem dX1_isDone_23 : decode cX1_isDone 23 = .ok (.iconst 0, 1) := dk_3 (dk_at dksX1_isDone_0 23 rfl rfl)
theorem dX1_isDone_24 : decode cX1_isDone 24 = .ok (.istore 6, 2) := dk_54 6 (dk_at dksX1_isDone_1 0 rfl rfl)
theorem dX1_isDone_26 : decode cX1_isDone 26 = .ok (.iload 6, 2) := dk_21 6 (dk_at dksX1_isDone_1 2 rfl rfl)
theorem dX1_isDone_28 : decode cX1_isDone 28 = .ok (.iconst 3, 1) := dk_6 (dk_at dksX1_isDone_1 4 rfl rfl)
theorem dX1_isDone_29 : decode cX1_isDone 29 = .ok (.if_icmp .ge 88, 3) := dk_162 0 88 (dk_at dksX1_isDone_1 5 rfl rfl)
theorem dX1_isDone_32 : decode cX1_isDone 32 = .ok (.iconst 1, 1) := dk_4 (dk_at dksX1_isDone_1 8 rfl rfl)
theorem dX1_isDone_33 : decode cX1_isDone 33 = .ok (.istore 7, 2) := dk_54 7 (dk_at dksX1_isDone_1 9 rfl rfl)
theorem dX1_isDone_35 : decode cX1_isDone 35 = .ok (.aload_n 3, 1) := dk_45 (dk_at dksX1_isDone_1 11 rfl rfl)
theorem dX1_isDone_36 : decode cX1_isDone 36 = .ok (.getfield 274, 3) := dk_180 1 18 (dk_at dksX1_isDone_1 12 rfl rfl)
theorem dX1_isDone_39 : decode cX1_isDone 39 = .ok (.istore 8, 2) := dk_54 8 (dk_at dksX1_isDone_1 15 rfl rfl)
theorem dX1_isDone_41 : decode cX1_isDone 41 = .ok (.aload_n 0, 1) := dk_42 (dk_at dksX1_isDone_1 17 rfl rfl)
theorem dX1_isDone_42 : decode cX1_isDone 42 = .ok (.aload_n 3, 1) := dk_45 (dk_at dksX1_isDone_1 18 rfl rfl)
theorem dX1_isDone_43 : decode cX1_isDone 43 = .ok (.aload_n 0, 1) := dk_42 (dk_at dksX1_isDone_1 19 rfl rfl)
theorem dX1_isDone_44 : decode cX1_isDone 44 = .ok (.getfield 116, 3) := dk_180 0 116 (dk_at dksX1_isDone_1 20 rfl rfl)
theorem dX1_isDone_47 : decode cX1_isDone 47 = .ok (.iconst (-1), 1) := dk_2 (dk_at dksX1_isDone_1 23 rfl rfl)
theorem dX1_isDone_48 : decode cX1_isDone 48 = .ok (.aload 5, 2) := dk_25 5 (dk_at dksX1_isDone_2 0 rfl rfl)
theorem dX1_isDone_50 : decode cX1_isDone 50 = .ok (.invokevirtual 335, 3) := dk_182 1 79 (dk_at dksX1_isDone_2 2 rfl rfl)
theorem dX1_isDone_53 : decode cX1_isDone 53 = .ok (.goto 8, 3) := dk_167 0 8 (dk_at dksX1_isDone_2 5 rfl rfl)
theorem dX1_isDone_56 : decode cX1_isDone 56 = .ok (.astore 9, 2) := dk_58 9 (dk_at dksX1_isDone_2 8 rfl rfl)
theorem dX1_isDone_58 : decode cX1_isDone 58 = .ok (.iconst 0, 1) := dk_3 (dk_at dksX1_isDone_2 10 rfl rfl)
theorem dX1_isDone_59 : decode cX1_isDone 59 = .ok (.istore 7, 2) := dk_54 7 (dk_at dksX1_isDone_2 11 rfl rfl)
theorem dX1_isDone_61 : decode cX1_isDone 61 = .ok (.aload 4, 2) := dk_25 4 (dk_at dksX1_isDone_2 13 rfl rfl)
theorem dX1_isDone_63 : decode cX1_isDone 63 = .ok (.ifnonnull 32, 3) := dk_199 0 32 (dk_at dksX1_isDone_2 15 rfl rfl)
theorem dX1_isDone_66 : decode cX1_isDone 66 = .ok (.iload 7, 2) := dk_21 7 (dk_at dksX1_isDone_2 18 rfl rfl)
theorem dX1_isDone_68 : decode cX1_isDone 68 = .ok (.ifCond .ne 8, 3) := dk_154 0 8 (dk_at dksX1_isDone_2 20 rfl rfl)
theorem dX1_isDone_71 : decode cX1_isDone 71 = .ok (.iload 8, 2) := dk_21 8 (dk_at dksX1_isDone_3 0 rfl rfl)
theorem dX1_isDone_73 : decode cX1_isDone 73 = .ok (.ifCond .eq 22, 3) := dk_153 0 22 (dk_at dksX1_isDone_3 2 rfl rfl)
theorem dX1_isDone_76 : decode cX1_isDone 76 = .ok (.aload_n 0, 1) := dk_42 (dk_at dksX1_isDone_3 5 rfl rfl)
theorem dX1_isDone_77 : decode cX1_isDone 77 = .ok (.aload_n 1, 1) := dk_43 (dk_at dksX1_isDone_3 6 rfl rfl)
theorem dX1_isDone_78 : decode cX1_isDone 78 = .ok (.invokevirtual 541, 3) := dk_182 2 29 (dk_at dksX1_isDone_3 7 rfl rfl)
theorem dX1_isDone_81 : decode cX1_isDone 81 = .ok (.astore 4, 2) := dk_58 4 (dk_at dksX1_isDone_3 10 rfl rfl)
theorem dX1_isDone_83 : decode cX1_isDone 83 = .ok (.aload 4, 2) := dk_25 4 (dk_at dksX1_isDone_3 12 rfl rfl)
theorem dX1_isDone_85 : decode cX1_isDone 85 = .ok (.ifnull 10, 3) := dk_198 0 10 (dk_at dksX1_isDone_3 14 rfl rfl)
theorem dX1_isDone_88 : decode cX1_isDone 88 = .ok (.aload_n 2, 1) := dk_44 (dk_at dksX1_isDone_3 17 rfl rfl)
theorem dX1_isDone_89 : decode cX1_isDone 89 = .ok (.aload 4, 2) := dk_25 4 (dk_at dksX1_isDone_3 18 rfl rfl)
theorem dX1_isDone_91 : decode cX1_isDone 91 = .ok (.invokevirtual 165, 3) := dk_182 0 165 (dk_at dksX1_isDone_3 20 rfl rfl)
theorem dX1_isDone_94 : decode cX1_isDone 94 = .ok (.pop, 1) := dk_87 (dk_at dksX1_isDone_3 23 rfl rfl)
theorem dX1_isDone_95 : decode cX1_isDone 95 = .ok (.iload 7, 2) := dk_21 7 (dk_at dksX1_isDone_4 0 rfl rfl)
theorem dX1_isDone_97 : decode cX1_isDone 97 = .ok (.ifCond .eq 14, 3) := dk_153 0 14 (dk_at dksX1_isDone_4 2 rfl rfl)
theorem dX1_isDone_100 : decode cX1_isDone 100 = .ok (.aload 4, 2) := dk_25 4 (dk_at dksX1_isDone_4 5 rfl rfl)
theorem dX1_isDone_102 : decode cX1_isDone 102 = .ok (.ifnull 7, 3) := dk_198 0 7 (dk_at dksX1_isDone_4 7 rfl rfl)
theorem dX1_isDone_105 : decode cX1_isDone 105 = .ok (.iconst 1, 1) := dk_4 (dk_at dksX1_isDone_4 10 rfl rfl)
theorem dX1_isDone_106 : decode cX1_isDone 106 = .ok (.goto 4, 3) := dk_167 0 4 (dk_at dksX1_isDone_4 11 rfl rfl)
theorem dX1_isDone_109 : decode cX1_isDone 109 = .ok (.iconst 0, 1) := dk_3 (dk_at dksX1_isDone_4 14 rfl rfl)
theorem dX1_isDone_110 : decode cX1_isDone 110 = .ok (.ireturn, 1) := dk_172 (dk_at dksX1_isDone_4 15 rfl rfl)
theorem dX1_isDone_111 : decode cX1_isDone 111 = .ok (.iinc 6 1, 3) := dk_132 6 1 (dk_at dksX1_isDone_4 16 rfl rfl)
theorem dX1_isDone_114 : decode cX1_isDone 114 = .ok (.goto (-88), 3) := dk_167 255 168 (dk_at dksX1_isDone_4 19 rfl rfl)
theorem dX1_isDone_117 : decode cX1_isDone 117 = .ok (.iconst 0, 1) := dk_3 (dk_at dksX1_isDone_4 22 rfl rfl)
theorem dX1_isDone_118 : decode cX1_isDone 118 = .ok (.ireturn, 1) := dk_172 (dk_at dksX1_isDone_4 23 rfl rfl)
abbrev cX1_done : ByteArray := prog_1_method_73_code
def yX1_done : MethodName := ⟨RX1, "done", "([I)LQueryHarbor$Done;"⟩
def dkwX1_done_5 : List UInt8 := [45, 1, 183, 2, 20, 176, 78, 1, 176]
abbrev dktX1_done_5 : List UInt8 := dkwX1_done_5 ++ []
def dkwX1_done_4 : List UInt8 := [184, 2, 17, 183, 2, 20, 176, 42, 43, 4, 46, 43, 5, 46, 182, 2, 27, 87, 187, 2, 15, 89, 42, 44]
abbrev dktX1_done_4 : List UInt8 := dkwX1_done_4 ++ dktX1_done_5
def dkwX1_done_3 : List UInt8 := [5, 46, 43, 6, 46, 43, 7, 46, 182, 2, 23, 87, 187, 2, 15, 89, 42, 44, 45, 44, 43, 5, 46]
abbrev dktX1_done_3 : List UInt8 := dkwX1_done_3 ++ dktX1_done_4
def dkwX1_done_2 : List UInt8 := [183, 2, 20, 176, 44, 43, 5, 46, 184, 2, 17, 78, 43, 3, 46, 4, 160, 0, 38, 42, 43, 4, 46, 43]
abbrev dktX1_done_2 : List UInt8 := dkwX1_done_2 ++ dktX1_done_3
def dkwX1_done_1 : List UInt8 := [46, 43, 7, 46, 43, 8, 46, 182, 2, 12, 62, 187, 2, 15, 89, 42, 44, 1, 44, 29, 184, 2, 17]
abbrev dktX1_done_1 : List UInt8 := dkwX1_done_1 ++ dktX1_done_2
def dkwX1_done_0 : List UInt8 := [42, 180, 0, 45, 43, 4, 46, 50, 77, 43, 3, 46, 154, 0, 39, 42, 43, 4, 46, 43, 5, 46, 43, 6]
abbrev dktX1_done_0 : List UInt8 := dkwX1_done_0 ++ dktX1_done_1
theorem dksX1_done_0 : cX1_done.data.toList.drop 0 = dktX1_done_0 := by decide +kernel
theorem dksX1_done_1 : cX1_done.data.toList.drop 24 = dktX1_done_1 := dk_seg dksX1_done_0 24 rfl rfl
theorem dksX1_done_2 : cX1_done.data.toList.drop 47 = dktX1_done_2 := dk_seg dksX1_done_1 23 rfl rfl
theorem dksX1_done_3 : cX1_done.data.toList.drop 71 = dktX1_done_3 := dk_seg dksX1_done_2 24 rfl rfl
theorem dksX1_done_4 : cX1_done.data.toList.drop 94 = dktX1_done_4 := dk_seg dksX1_done_3 23 rfl rfl
theorem dksX1_done_5 : cX1_done.data.toList.drop 118 = dktX1_done_5 := dk_seg dksX1_done_4 24 rfl rfl
theorem dX1_done_0 : decode cX1_done 0 = .ok (.aload_n 0, 1) := dk_42 (dk_at dksX1_done_0 0 rfl rfl)
theorem dX1_done_1 : decode cX1_done 1 = .ok (.getfield 45, 3) := dk_180 0 45 (dk_at dksX1_done_0 1 rfl rfl)
theorem dX1_done_4 : decode cX1_done 4 = .ok (.aload_n 1, 1) := dk_43 (dk_at dksX1_done_0 4 rfl rfl)
theorem dX1_done_5 : decode cX1_done 5 = .ok (.iconst 1, 1) := dk_4 (dk_at dksX1_done_0 5 rfl rfl)
theorem dX1_done_6 : decode cX1_done 6 = .ok (.iaload, 1) := dk_46 (dk_at dksX1_done_0 6 rfl rfl)
theorem dX1_done_7 : decode cX1_done 7 = .ok (.aaload, 1) := dk_50 (dk_at dksX1_done_0 7 rfl rfl)
theorem dX1_done_8 : decode cX1_done 8 = .ok (.astore_n 2, 1) := dk_77 (dk_at dksX1_done_0 8 rfl rfl)
theorem dX1_done_9 : decode cX1_done 9 = .ok (.aload_n 1, 1) := dk_43 (dk_at dksX1_done_0 9 rfl rfl)
theorem dX1_done_10 : decode cX1_done 10 = .ok (.iconst 0, 1) := dk_3 (dk_at dksX1_done_0 10 rfl rfl)
theorem dX1_done_11 : decode cX1_done 11 = .ok (.iaload, 1) := dk_46 (dk_at dksX1_done_0 11 rfl rfl)
theorem dX1_done_12 : decode cX1_done 12 = .ok (.ifCond .ne 39, 3) := dk_154 0 39 (dk_at dksX1_done_0 12 rfl rfl)
theorem dX1_done_15 : decode cX1_done 15 = .ok (.aload_n 0, 1) := dk_42 (dk_at dksX1_done_0 15 rfl rfl)
theorem dX1_done_16 : decode cX1_done 16 = .ok (.aload_n 1, 1) := dk_43 (dk_at dksX1_done_0 16 rfl rfl)
theorem dX1_done_17 : decode cX1_done 17 = .ok (.iconst 1, 1) := dk_4 (dk_at dksX1_done_0 17 rfl rfl)
theorem dX1_done_18 : decode cX1_done 18 = .ok (.iaload, 1) := dk_46 (dk_at dksX1_done_0 18 rfl rfl)
theorem dX1_done_19 : decode cX1_done 19 = .ok (.aload_n 1, 1) := dk_43 (dk_at dksX1_done_0 19 rfl rfl)
theorem dX1_done_20 : decode cX1_done 20 = .ok (.iconst 2, 1) := dk_5 (dk_at dksX1_done_0 20 rfl rfl)
theorem dX1_done_21 : decode cX1_done 21 = .ok (.iaload, 1) := dk_46 (dk_at dksX1_done_0 21 rfl rfl)
theorem dX1_done_22 : decode cX1_done 22 = .ok (.aload_n 1, 1) := dk_43 (dk_at dksX1_done_0 22 rfl rfl)
theorem dX1_done_23 : decode cX1_done 23 = .ok (.iconst 3, 1) := dk_6 (dk_at dksX1_done_0 23 rfl rfl)
theorem dX1_done_24 : decode cX1_done 24 = .ok (.iaload, 1) := dk_46 (dk_at dksX1_done_1 0 rfl rfl)
theorem dX1_done_25 : decode cX1_done 25 = .ok (.aload_n 1, 1) := dk_43 (dk_at dksX1_done_1 1 rfl rfl)
theorem dX1_done_26 : decode cX1_done 26 = .ok (.iconst 4, 1) := dk_7 (dk_at dksX1_done_1 2 rfl rfl)
theorem dX1_done_27 : decode cX1_done 27 = .ok (.iaload, 1) := dk_46 (dk_at dksX1_done_1 3 rfl rfl)
theorem dX1_done_28 : decode cX1_done 28 = .ok (.aload_n 1, 1) := dk_43 (dk_at dksX1_done_1 4 rfl rfl)
theorem dX1_done_29 : decode cX1_done 29 = .ok (.iconst 5, 1) := dk_8 (dk_at dksX1_done_1 5 rfl rfl)
theorem dX1_done_30 : decode cX1_done 30 = .ok (.iaload, 1) := dk_46 (dk_at dksX1_done_1 6 rfl rfl)
theorem dX1_done_31 : decode cX1_done 31 = .ok (.invokevirtual 524, 3) := dk_182 2 12 (dk_at dksX1_done_1 7 rfl rfl)
theorem dX1_done_34 : decode cX1_done 34 = .ok (.istore_n 3, 1) := dk_62 (dk_at dksX1_done_1 10 rfl rfl)
theorem dX1_done_35 : decode cX1_done 35 = .ok (.new 527, 3) := dk_187 2 15 (dk_at dksX1_done_1 11 rfl rfl)
theorem dX1_done_38 : decode cX1_done 38 = .ok (.dup, 1) := dk_89 (dk_at dksX1_done_1 14 rfl rfl)
theorem dX1_done_39 : decode cX1_done 39 = .ok (.aload_n 0, 1) := dk_42 (dk_at dksX1_done_1 15 rfl rfl)
theorem dX1_done_40 : decode cX1_done 40 = .ok (.aload_n 2, 1) := dk_44 (dk_at dksX1_done_1 16 rfl rfl)
theorem dX1_done_41 : decode cX1_done 41 = .ok (.aconst_null, 1) := dk_1 (dk_at dksX1_done_1 17 rfl rfl)
theorem dX1_done_42 : decode cX1_done 42 = .ok (.aload_n 2, 1) := dk_44 (dk_at dksX1_done_1 18 rfl rfl)
theorem dX1_done_43 : decode cX1_done 43 = .ok (.iload_n 3, 1) := dk_29 (dk_at dksX1_done_1 19 rfl rfl)
theorem dX1_done_44 : decode cX1_done 44 = .ok (.invokestatic 529, 3) := dk_184 2 17 (dk_at dksX1_done_1 20 rfl rfl)
theorem dX1_done_47 : decode cX1_done 47 = .ok (.invokespecial 532, 3) := dk_183 2 20 (dk_at dksX1_done_2 0 rfl rfl)
theorem dX1_done_50 : decode cX1_done 50 = .ok (.areturn, 1) := dk_176 (dk_at dksX1_done_2 3 rfl rfl)
theorem dX1_done_51 : decode cX1_done 51 = .ok (.aload_n 2, 1) := dk_44 (dk_at dksX1_done_2 4 rfl rfl)
theorem dX1_done_52 : decode cX1_done 52 = .ok (.aload_n 1, 1) := dk_43 (dk_at dksX1_done_2 5 rfl rfl)
theorem dX1_done_53 : decode cX1_done 53 = .ok (.iconst 2, 1) := dk_5 (dk_at dksX1_done_2 6 rfl rfl)
theorem dX1_done_54 : decode cX1_done 54 = .ok (.iaload, 1) := dk_46 (dk_at dksX1_done_2 7 rfl rfl)
theorem dX1_done_55 : decode cX1_done 55 = .ok (.invokestatic 529, 3) := dk_184 2 17 (dk_at dksX1_done_2 8 rfl rfl)
theorem dX1_done_58 : decode cX1_done 58 = .ok (.astore_n 3, 1) := dk_78 (dk_at dksX1_done_2 11 rfl rfl)
theorem dX1_done_59 : decode cX1_done 59 = .ok (.aload_n 1, 1) := dk_43 (dk_at dksX1_done_2 12 rfl rfl)
theorem dX1_done_60 : decode cX1_done 60 = .ok (.iconst 0, 1) := dk_3 (dk_at dksX1_done_2 13 rfl rfl)
theorem dX1_done_61 : decode cX1_done 61 = .ok (.iaload, 1) := dk_46 (dk_at dksX1_done_2 14 rfl rfl)
theorem dX1_done_62 : decode cX1_done 62 = .ok (.iconst 1, 1) := dk_4 (dk_at dksX1_done_2 15 rfl rfl)
theorem dX1_done_63 : decode cX1_done 63 = .ok (.if_icmp .ne 38, 3) := dk_160 0 38 (dk_at dksX1_done_2 16 rfl rfl)
theorem dX1_done_66 : decode cX1_done 66 = .ok (.aload_n 0, 1) := dk_42 (dk_at dksX1_done_2 19 rfl rfl)
theorem dX1_done_67 : decode cX1_done 67 = .ok (.aload_n 1, 1) := dk_43 (dk_at dksX1_done_2 20 rfl rfl)
theorem dX1_done_68 : decode cX1_done 68 = .ok (.iconst 1, 1) := dk_4 (dk_at dksX1_done_2 21 rfl rfl)
theorem dX1_done_69 : decode cX1_done 69 = .ok (.iaload, 1) := dk_46 (dk_at dksX1_done_2 22 rfl rfl)
theorem dX1_done_70 : decode cX1_done 70 = .ok (.aload_n 1, 1) := dk_43 (dk_at dksX1_done_2 23 rfl rfl)
theorem dX1_done_71 : decode cX1_done 71 = .ok (.iconst 2, 1) := dk_5 (dk_at dksX1_done_3 0 rfl rfl)
theorem dX1_done_72 : decode cX1_done 72 = .ok (.iaload, 1) := dk_46 (dk_at dksX1_done_3 1 rfl rfl)
theorem dX1_done_73 : decode cX1_done 73 = .ok (.aload_n 1, 1) := dk_43 (dk_at dksX1_done_3 2 rfl rfl)
theorem dX1_done_74 : decode cX1_done 74 = .ok (.iconst 3, 1) := dk_6 (dk_at dksX1_done_3 3 rfl rfl)
theorem dX1_done_75 : decode cX1_done 75 = .ok (.iaload, 1) := dk_46 (dk_at dksX1_done_3 4 rfl rfl)
theorem dX1_done_76 : decode cX1_done 76 = .ok (.aload_n 1, 1) := dk_43 (dk_at dksX1_done_3 5 rfl rfl)
theorem dX1_done_77 : decode cX1_done 77 = .ok (.iconst 4, 1) := dk_7 (dk_at dksX1_done_3 6 rfl rfl)
theorem dX1_done_78 : decode cX1_done 78 = .ok (.iaload, 1) := dk_46 (dk_at dksX1_done_3 7 rfl rfl)
theorem dX1_done_79 : decode cX1_done 79 = .ok (.invokevirtual 535, 3) := dk_182 2 23 (dk_at dksX1_done_3 8 rfl rfl)
theorem dX1_done_82 : decode cX1_done 82 = .ok (.pop, 1) := dk_87 (dk_at dksX1_done_3 11 rfl rfl)
theorem dX1_done_83 : decode cX1_done 83 = .ok (.new 527, 3) := dk_187 2 15 (dk_at dksX1_done_3 12 rfl rfl)
theorem dX1_done_86 : decode cX1_done 86 = .ok (.dup, 1) := dk_89 (dk_at dksX1_done_3 15 rfl rfl)
theorem dX1_done_87 : decode cX1_done 87 = .ok (.aload_n 0, 1) := dk_42 (dk_at dksX1_done_3 16 rfl rfl)
theorem dX1_done_88 : decode cX1_done 88 = .ok (.aload_n 2, 1) := dk_44 (dk_at dksX1_done_3 17 rfl rfl)
theorem dX1_done_89 : decode cX1_done 89 = .ok (.aload_n 3, 1) := dk_45 (dk_at dksX1_done_3 18 rfl rfl)
theorem dX1_done_90 : decode cX1_done 90 = .ok (.aload_n 2, 1) := dk_44 (dk_at dksX1_done_3 19 rfl rfl)
theorem dX1_done_91 : decode cX1_done 91 = .ok (.aload_n 1, 1) := dk_43 (dk_at dksX1_done_3 20 rfl rfl)
theorem dX1_done_92 : decode cX1_done 92 = .ok (.iconst 2, 1) := dk_5 (dk_at dksX1_done_3 21 rfl rfl)
theorem dX1_done_93 : decode cX1_done 93 = .ok (.iaload, 1) := dk_46 (dk_at dksX1_done_3 22 rfl rfl)
theorem dX1_done_94 : decode cX1_done 94 = .ok (.invokestatic 529, 3) := dk_184 2 17 (dk_at dksX1_done_4 0 rfl rfl)
theorem dX1_done_97 : decode cX1_done 97 = .ok (.invokespecial 532, 3) := dk_183 2 20 (dk_at dksX1_done_4 3 rfl rfl)
theorem dX1_done_100 : decode cX1_done 100 = .ok (.areturn, 1) := dk_176 (dk_at dksX1_done_4 6 rfl rfl)
theorem dX1_done_101 : decode cX1_done 101 = .ok (.aload_n 0, 1) := dk_42 (dk_at dksX1_done_4 7 rfl rfl)
theorem dX1_done_102 : decode cX1_done 102 = .ok (.aload_n 1, 1) := dk_43 (dk_at dksX1_done_4 8 rfl rfl)
theorem dX1_done_103 : decode cX1_done 103 = .ok (.iconst 1, 1) := dk_4 (dk_at dksX1_done_4 9 rfl rfl)
theorem dX1_done_104 : decode cX1_done 104 = .ok (.iaload, 1) := dk_46 (dk_at dksX1_done_4 10 rfl rfl)
theorem dX1_done_105 : decode cX1_done 105 = .ok (.aload_n 1, 1) := dk_43 (dk_at dksX1_done_4 11 rfl rfl)
theorem dX1_done_106 : decode cX1_done 106 = .ok (.iconst 2, 1) := dk_5 (dk_at dksX1_done_4 12 rfl rfl)
theorem dX1_done_107 : decode cX1_done 107 = .ok (.iaload, 1) := dk_46 (dk_at dksX1_done_4 13 rfl rfl)
theorem dX1_done_108 : decode cX1_done 108 = .ok (.invokevirtual 539, 3) := dk_182 2 27 (dk_at dksX1_done_4 14 rfl rfl)
theorem dX1_done_111 : decode cX1_done 111 = .ok (.pop, 1) := dk_87 (dk_at dksX1_done_4 17 rfl rfl)
theorem dX1_done_112 : decode cX1_done 112 = .ok (.new 527, 3) := dk_187 2 15 (dk_at dksX1_done_4 18 rfl rfl)
theorem dX1_done_115 : decode cX1_done 115 = .ok (.dup, 1) := dk_89 (dk_at dksX1_done_4 21 rfl rfl)
theorem dX1_done_116 : decode cX1_done 116 = .ok (.aload_n 0, 1) := dk_42 (dk_at dksX1_done_4 22 rfl rfl)
theorem dX1_done_117 : decode cX1_done 117 = .ok (.aload_n 2, 1) := dk_44 (dk_at dksX1_done_4 23 rfl rfl)
theorem dX1_done_118 : decode cX1_done 118 = .ok (.aload_n 3, 1) := dk_45 (dk_at dksX1_done_5 0 rfl rfl)
theorem dX1_done_119 : decode cX1_done 119 = .ok (.aconst_null, 1) := dk_1 (dk_at dksX1_done_5 1 rfl rfl)
theorem dX1_done_120 : decode cX1_done 120 = .ok (.invokespecial 532, 3) := dk_183 2 20 (dk_at dksX1_done_5 2 rfl rfl)
theorem dX1_done_123 : decode cX1_done 123 = .ok (.areturn, 1) := dk_176 (dk_at dksX1_done_5 5 rfl rfl)
theorem dX1_done_124 : decode cX1_done 124 = .ok (.astore_n 3, 1) := dk_78 (dk_at dksX1_done_5 6 rfl rfl)
theorem dX1_done_125 : decode cX1_done 125 = .ok (.aconst_null, 1) := dk_1 (dk_at dksX1_done_5 7 rfl rfl)
theorem dX1_done_126 : decode cX1_done 126 = .ok (.areturn, 1) := dk_176 (dk_at dksX1_done_5 8 rfl rfl)
abbrev cX1_find : ByteArray := prog_1_method_72_code
def yX1_find : MethodName := ⟨RX1, "find", "(LQueryHarbor$Source;I)LQueryHarbor$Row;"⟩
def dkwX1_find_1 : List UInt8 := [192, 0, 216, 176]
abbrev dktX1_find_1 : List UInt8 := dkwX1_find_1 ++ []
def dkwX1_find_0 : List UInt8 := [42, 27, 182, 0, 200, 61, 28, 2, 160, 0, 7, 1, 167, 0, 14, 42, 180, 0, 193, 28, 182, 0, 9]
abbrev dktX1_find_0 : List UInt8 := dkwX1_find_0 ++ dktX1_find_1
theorem dksX1_find_0 : cX1_find.data.toList.drop 0 = dktX1_find_0 := by decide +kernel
theorem dksX1_find_1 : cX1_find.data.toList.drop 23 = dktX1_find_1 := dk_seg dksX1_find_0 23 rfl rfl
theorem dX1_find_0 : decode cX1_find 0 = .ok (.aload_n 0, 1) := dk_42 (dk_at dksX1_find_0 0 rfl rfl)
theorem dX1_find_1 : decode cX1_find 1 = .ok (.iload_n 1, 1) := dk_27 (dk_at dksX1_find_0 1 rfl rfl)
theorem dX1_find_2 : decode cX1_find 2 = .ok (.invokevirtual 200, 3) := dk_182 0 200 (dk_at dksX1_find_0 2 rfl rfl)
theorem dX1_find_5 : decode cX1_find 5 = .ok (.istore_n 2, 1) := dk_61 (dk_at dksX1_find_0 5 rfl rfl)
theorem dX1_find_6 : decode cX1_find 6 = .ok (.iload_n 2, 1) := dk_28 (dk_at dksX1_find_0 6 rfl rfl)
theorem dX1_find_7 : decode cX1_find 7 = .ok (.iconst (-1), 1) := dk_2 (dk_at dksX1_find_0 7 rfl rfl)
theorem dX1_find_8 : decode cX1_find 8 = .ok (.if_icmp .ne 7, 3) := dk_160 0 7 (dk_at dksX1_find_0 8 rfl rfl)
theorem dX1_find_11 : decode cX1_find 11 = .ok (.aconst_null, 1) := dk_1 (dk_at dksX1_find_0 11 rfl rfl)
theorem dX1_find_12 : decode cX1_find 12 = .ok (.goto 14, 3) := dk_167 0 14 (dk_at dksX1_find_0 12 rfl rfl)
theorem dX1_find_15 : decode cX1_find 15 = .ok (.aload_n 0, 1) := dk_42 (dk_at dksX1_find_0 15 rfl rfl)
theorem dX1_find_16 : decode cX1_find 16 = .ok (.getfield 193, 3) := dk_180 0 193 (dk_at dksX1_find_0 16 rfl rfl)
theorem dX1_find_19 : decode cX1_find 19 = .ok (.iload_n 2, 1) := dk_28 (dk_at dksX1_find_0 19 rfl rfl)
theorem dX1_find_20 : decode cX1_find 20 = .ok (.invokevirtual 9, 3) := dk_182 0 9 (dk_at dksX1_find_0 20 rfl rfl)
theorem dX1_find_23 : decode cX1_find 23 = .ok (.checkcast 216, 3) := dk_192 0 216 (dk_at dksX1_find_1 0 rfl rfl)
theorem dX1_find_26 : decode cX1_find 26 = .ok (.areturn, 1) := dk_176 (dk_at dksX1_find_1 3 rfl rfl)
theorem q85 : (Jvm.Cond.initialized "QueryHarbor") ∈ lw_all := lw_g (lw_at lw_m1 1 rfl) rfl
theorem q128 : (Jvm.Cond.instantiable "QueryHarbor" (16 : Nat)) ∈ lw_all := lw_g (lw_at lw_m1 44 rfl) rfl
theorem q130 : (Jvm.Cond.instanceMethod ({ cls := "QueryHarbor", name := "<init>", desc := "()V" } : Jvm.MethodName)) ∈ lw_all := lw_g (lw_at lw_m1 46 rfl) rfl
theorem q131 : (Jvm.Cond.code ({ cls := "QueryHarbor", name := "<init>", desc := "()V" } : Jvm.MethodName) prog_1_method_4_code (2 : Nat) (Option.none : Option Jvm.ClassFile.FieldType)) ∈ lw_all := lw_g (lw_at lw_m1 47 rfl) rfl
theorem q132 : (Jvm.Cond.methodLink "QueryHarbor" (19 : Nat) ({ cls := "java/lang/Object", name := "<init>", desc := "()V" } : Jvm.MethodName)) ∈ lw_all := lw_g (lw_at lw_m1 48 rfl) rfl
theorem q135 : (Jvm.Cond.classLink "QueryHarbor" (25 : Nat) "QueryHarbor$Line") ∈ lw_all := lw_g (lw_at lw_m1 51 rfl) rfl
theorem q138 : (Jvm.Cond.classLink "QueryHarbor" (27 : Nat) "QueryHarbor$Tables") ∈ lw_all := lw_g (lw_at lw_m1 54 rfl) rfl
theorem q140 : (Jvm.Cond.methodLinkNest "QueryHarbor" (29 : Nat) ({ cls := "QueryHarbor$Tables", name := "<init>", desc := "()V" } : Jvm.MethodName) "QueryHarbor") ∈ lw_tbl := lw_at lw_m1 56 rfl
theorem q145 : (Jvm.Cond.methodLink "QueryHarbor" (30 : Nat) ({ cls := "QueryHarbor$Line", name := "<init>", desc := "(LQueryHarbor$Store;)V" } : Jvm.MethodName)) ∈ lw_all := lw_g (lw_at lw_m1 61 rfl) rfl
theorem q151 : (Jvm.Cond.fieldLink "QueryHarbor" (183 : Nat) "QueryHarbor$Line" "store" "LQueryHarbor$Store;") ∈ lw_all := lw_g (lw_at lw_m1 67 rfl) rfl
theorem q153 : (Jvm.Cond.fieldLink "QueryHarbor" (262 : Nat) "QueryHarbor$Line" "delay" "I") ∈ lw_all := lw_g (lw_at lw_m1 69 rfl) rfl
theorem q154 : (Jvm.Cond.fieldLink "QueryHarbor" (169 : Nat) "QueryHarbor$Line" "lag" "I") ∈ lw_all := lw_g (lw_at lw_m1 70 rfl) rfl
theorem q156 : (Jvm.Cond.fieldLink "QueryHarbor" (265 : Nat) "QueryHarbor$Line" "quota" "I") ∈ lw_all := lw_g (lw_at lw_m1 72 rfl) rfl
theorem q158 : (Jvm.Cond.fieldLink "QueryHarbor" (268 : Nat) "QueryHarbor$Line" "cap" "I") ∈ lw_all := lw_g (lw_at lw_m1 74 rfl) rfl
theorem q160 : (Jvm.Cond.fieldLink "QueryHarbor" (144 : Nat) "QueryHarbor$Line" "lease" "I") ∈ lw_all := lw_g (lw_at lw_m1 76 rfl) rfl
theorem q161 : (Jvm.Cond.fieldLink "QueryHarbor" (271 : Nat) "QueryHarbor$Line" "fails" "I") ∈ lw_all := lw_g (lw_at lw_m1 77 rfl) rfl
theorem q162 : (Jvm.Cond.fieldLink "QueryHarbor" (274 : Nat) "QueryHarbor$Line" "doesIt" "Z") ∈ lw_all := lw_g (lw_at lw_m1 78 rfl) rfl
theorem q163 : (Jvm.Cond.fieldLink "QueryHarbor" (308 : Nat) "QueryHarbor$Line" "window" "I") ∈ lw_all := lw_g (lw_at lw_m1 79 rfl) rfl
theorem q164 : (Jvm.Cond.fieldLink "QueryHarbor" (311 : Nat) "QueryHarbor$Line" "used" "I") ∈ lw_all := lw_g (lw_at lw_m1 80 rfl) rfl
theorem q186 : (Jvm.Cond.classLink "QueryHarbor" (33 : Nat) "QueryHarbor$KeyStore") ∈ lw_all := lw_g (lw_at lw_m1 102 rfl) rfl
theorem q188 : (Jvm.Cond.methodLinkNest "QueryHarbor" (35 : Nat) ({ cls := "QueryHarbor$KeyStore", name := "<init>", desc := "()V" } : Jvm.MethodName) "QueryHarbor") ∈ lw_tbl := lw_at lw_m1 104 rfl
theorem q193 : (Jvm.Cond.classLink "QueryHarbor" (36 : Nat) "QueryHarbor$DocumentStore") ∈ lw_all := lw_g (lw_at lw_m1 109 rfl) rfl
theorem q195 : (Jvm.Cond.methodLinkNest "QueryHarbor" (38 : Nat) ({ cls := "QueryHarbor$DocumentStore", name := "<init>", desc := "()V" } : Jvm.MethodName) "QueryHarbor") ∈ lw_tbl := lw_at lw_m1 111 rfl
theorem q200 : (Jvm.Cond.classLink "QueryHarbor" (43 : Nat) "QueryHarbor$Source") ∈ lw_all := lw_g (lw_at lw_m1 116 rfl) rfl
theorem q202 : (Jvm.Cond.classLink "QueryHarbor" (49 : Nat) "[[Z") ∈ lw_all := lw_g (lw_at lw_m1 118 rfl) rfl
theorem q204 : (Jvm.Cond.classLink "QueryHarbor" (4 : Nat) "java/util/ArrayList") ∈ lw_all := lw_g (lw_at lw_m1 120 rfl) rfl
theorem q206 : (Jvm.Cond.methodLink "QueryHarbor" (54 : Nat) ({ cls := "java/util/ArrayList", name := "<init>", desc := "()V" } : Jvm.MethodName)) ∈ lw_all := lw_g (lw_at lw_m1 122 rfl) rfl
theorem q231 : (Jvm.Cond.classLink "QueryHarbor" (81 : Nat) "QueryHarbor$Answer") ∈ lw_all := lw_g (lw_at lw_m1 147 rfl) rfl
theorem q233 : (Jvm.Cond.methodLinkNest "QueryHarbor" (83 : Nat) ({ cls := "QueryHarbor$Answer", name := "<init>", desc := "()V" } : Jvm.MethodName) "QueryHarbor") ∈ lw_tbl := lw_at lw_m1 149 rfl
theorem q240 : (Jvm.Cond.fieldLink "QueryHarbor" (474 : Nat) "QueryHarbor$Answer" "rows" "Ljava/util/ArrayList;") ∈ lw_all := lw_g (lw_at lw_m1 156 rfl) rfl
theorem q242 : (Jvm.Cond.fieldLink "QueryHarbor" (490 : Nat) "QueryHarbor$Answer" "taken" "Ljava/util/ArrayList;") ∈ lw_all := lw_g (lw_at lw_m1 158 rfl) rfl
theorem q243 : (Jvm.Cond.fieldLink "QueryHarbor" (493 : Nat) "QueryHarbor$Answer" "missing" "I") ∈ lw_all := lw_g (lw_at lw_m1 159 rfl) rfl
theorem q245 : (Jvm.Cond.fieldLink "QueryHarbor" (505 : Nat) "QueryHarbor$Answer" "claims" "I") ∈ lw_all := lw_g (lw_at lw_m1 161 rfl) rfl
theorem q246 : (Jvm.Cond.fieldLink "QueryHarbor" (324 : Nat) "QueryHarbor$Answer" "cost" "I") ∈ lw_all := lw_g (lw_at lw_m1 162 rfl) rfl
theorem q247 : (Jvm.Cond.fieldLink "QueryHarbor" (321 : Nat) "QueryHarbor$Answer" "attempts" "I") ∈ lw_all := lw_g (lw_at lw_m1 163 rfl) rfl
theorem q248 : (Jvm.Cond.fieldLink "QueryHarbor" (361 : Nat) "QueryHarbor$Answer" "shipped" "I") ∈ lw_all := lw_g (lw_at lw_m1 164 rfl) rfl
theorem q265 : (Jvm.Cond.methodLink "QueryHarbor" (88 : Nat) ({ cls := "QueryHarbor$Source", name := "<init>", desc := "(ILQueryHarbor$Line;)V" } : Jvm.MethodName)) ∈ lw_all := lw_g (lw_at lw_m1 181 rfl) rfl
theorem q272 : (Jvm.Cond.fieldLink "QueryHarbor" (147 : Nat) "QueryHarbor$Source" "number" "I") ∈ lw_all := lw_g (lw_at lw_m1 188 rfl) rfl
theorem q275 : (Jvm.Cond.fieldLink "QueryHarbor" (140 : Nat) "QueryHarbor$Source" "line" "LQueryHarbor$Line;") ∈ lw_all := lw_g (lw_at lw_m1 191 rfl) rfl
theorem q278 : (Jvm.Cond.fieldLink "QueryHarbor" (193 : Nat) "QueryHarbor$Source" "rows" "Ljava/util/ArrayList;") ∈ lw_all := lw_g (lw_at lw_m1 194 rfl) rfl
theorem q280 : (Jvm.Cond.fieldLink "QueryHarbor" (156 : Nat) "QueryHarbor$Source" "writes" "Ljava/util/ArrayList;") ∈ lw_all := lw_g (lw_at lw_m1 196 rfl) rfl
theorem q281 : (Jvm.Cond.fieldLink "QueryHarbor" (204 : Nat) "QueryHarbor$Source" "added" "I") ∈ lw_all := lw_g (lw_at lw_m1 197 rfl) rfl
theorem q284 : (Jvm.Cond.fieldLink "QueryHarbor" (380 : Nat) "QueryHarbor$Source" "size" "I") ∈ lw_all := lw_g (lw_at lw_m1 200 rfl) rfl
theorem q298 : (Jvm.Cond.fieldLink "QueryHarbor" (39 : Nat) "QueryHarbor" "lines" "[LQueryHarbor$Line;") ∈ lw_all := lw_g (lw_at lw_m1 214 rfl) rfl
theorem q300 : (Jvm.Cond.fieldLink "QueryHarbor" (45 : Nat) "QueryHarbor" "sources" "[LQueryHarbor$Source;") ∈ lw_all := lw_g (lw_at lw_m1 216 rfl) rfl
theorem q301 : (Jvm.Cond.fieldLink "QueryHarbor" (51 : Nat) "QueryHarbor" "isForbidden" "[[Z") ∈ lw_all := lw_g (lw_at lw_m1 217 rfl) rfl
theorem q302 : (Jvm.Cond.fieldLink "QueryHarbor" (55 : Nat) "QueryHarbor" "messages" "Ljava/util/ArrayList;") ∈ lw_all := lw_g (lw_at lw_m1 218 rfl) rfl
theorem q303 : (Jvm.Cond.fieldLink "QueryHarbor" (59 : Nat) "QueryHarbor" "cache" "Ljava/util/ArrayList;") ∈ lw_all := lw_g (lw_at lw_m1 219 rfl) rfl
theorem q305 : (Jvm.Cond.fieldLink "QueryHarbor" (62 : Nat) "QueryHarbor" "seats" "Ljava/util/ArrayList;") ∈ lw_all := lw_g (lw_at lw_m1 221 rfl) rfl
theorem q306 : (Jvm.Cond.fieldLink "QueryHarbor" (65 : Nat) "QueryHarbor" "links" "Ljava/util/ArrayList;") ∈ lw_all := lw_g (lw_at lw_m1 222 rfl) rfl
theorem q308 : (Jvm.Cond.fieldLink "QueryHarbor" (68 : Nat) "QueryHarbor" "conditions" "Ljava/util/ArrayList;") ∈ lw_all := lw_g (lw_at lw_m1 224 rfl) rfl
theorem q309 : (Jvm.Cond.fieldLink "QueryHarbor" (71 : Nat) "QueryHarbor" "outputs" "Ljava/util/ArrayList;") ∈ lw_all := lw_g (lw_at lw_m1 225 rfl) rfl
theorem q310 : (Jvm.Cond.fieldLink "QueryHarbor" (74 : Nat) "QueryHarbor" "bundle" "Ljava/util/ArrayList;") ∈ lw_all := lw_g (lw_at lw_m1 226 rfl) rfl
theorem q311 : (Jvm.Cond.fieldLink "QueryHarbor" (77 : Nat) "QueryHarbor" "limit" "I") ∈ lw_all := lw_g (lw_at lw_m1 227 rfl) rfl
theorem q312 : (Jvm.Cond.fieldLink "QueryHarbor" (302 : Nat) "QueryHarbor" "isGrouping" "Z") ∈ lw_all := lw_g (lw_at lw_m1 228 rfl) rfl
theorem q313 : (Jvm.Cond.fieldLink "QueryHarbor" (84 : Nat) "QueryHarbor" "latest" "LQueryHarbor$Answer;") ∈ lw_all := lw_g (lw_at lw_m1 229 rfl) rfl
theorem q314 : (Jvm.Cond.fieldLink "QueryHarbor" (213 : Nat) "QueryHarbor" "losses" "I") ∈ lw_all := lw_g (lw_at lw_m1 230 rfl) rfl
theorem q315 : (Jvm.Cond.fieldLink "QueryHarbor" (155 : Nat) "QueryHarbor" "moment" "I") ∈ lw_all := lw_g (lw_at lw_m1 231 rfl) rfl
theorem q316 : (Jvm.Cond.fieldLink "QueryHarbor" (116 : Nat) "QueryHarbor" "now" "I") ∈ lw_all := lw_g (lw_at lw_m1 232 rfl) rfl
theorem q317 : (Jvm.Cond.laysFinal "QueryHarbor" "QueryHarbor" "lines" "[LQueryHarbor$Line;") ∈ lw_all := lw_g (lw_at lw_m1 233 rfl) rfl
theorem q318 : (Jvm.Cond.soleField "QueryHarbor" "lines") ∈ lw_all := lw_g (lw_at lw_m1 234 rfl) rfl
theorem q319 : (Jvm.Cond.laysFinal "QueryHarbor" "QueryHarbor" "sources" "[LQueryHarbor$Source;") ∈ lw_all := lw_g (lw_at lw_m1 235 rfl) rfl
theorem q320 : (Jvm.Cond.soleField "QueryHarbor" "sources") ∈ lw_all := lw_g (lw_at lw_m1 236 rfl) rfl
theorem q321 : (Jvm.Cond.laysFinal "QueryHarbor" "QueryHarbor" "isForbidden" "[[Z") ∈ lw_all := lw_g (lw_at lw_m1 237 rfl) rfl
theorem q322 : (Jvm.Cond.soleField "QueryHarbor" "isForbidden") ∈ lw_all := lw_g (lw_at lw_m1 238 rfl) rfl
theorem q323 : (Jvm.Cond.laysFinal "QueryHarbor" "QueryHarbor" "messages" "Ljava/util/ArrayList;") ∈ lw_all := lw_g (lw_at lw_m1 239 rfl) rfl
theorem q324 : (Jvm.Cond.soleField "QueryHarbor" "messages") ∈ lw_all := lw_g (lw_at lw_m2 0 rfl) rfl
theorem q325 : (Jvm.Cond.laysFinal "QueryHarbor" "QueryHarbor" "cache" "Ljava/util/ArrayList;") ∈ lw_all := lw_g (lw_at lw_m2 1 rfl) rfl
theorem q326 : (Jvm.Cond.soleField "QueryHarbor" "cache") ∈ lw_all := lw_g (lw_at lw_m2 2 rfl) rfl
theorem q327 : (Jvm.Cond.laysFinal "QueryHarbor" "QueryHarbor" "seats" "Ljava/util/ArrayList;") ∈ lw_all := lw_g (lw_at lw_m2 3 rfl) rfl
theorem q328 : (Jvm.Cond.soleField "QueryHarbor" "seats") ∈ lw_all := lw_g (lw_at lw_m2 4 rfl) rfl
theorem q329 : (Jvm.Cond.laysFinal "QueryHarbor" "QueryHarbor" "links" "Ljava/util/ArrayList;") ∈ lw_all := lw_g (lw_at lw_m2 5 rfl) rfl
theorem q330 : (Jvm.Cond.soleField "QueryHarbor" "links") ∈ lw_all := lw_g (lw_at lw_m2 6 rfl) rfl
theorem q331 : (Jvm.Cond.laysFinal "QueryHarbor" "QueryHarbor" "conditions" "Ljava/util/ArrayList;") ∈ lw_all := lw_g (lw_at lw_m2 7 rfl) rfl
theorem q332 : (Jvm.Cond.soleField "QueryHarbor" "conditions") ∈ lw_all := lw_g (lw_at lw_m2 8 rfl) rfl
theorem q333 : (Jvm.Cond.laysFinal "QueryHarbor" "QueryHarbor" "outputs" "Ljava/util/ArrayList;") ∈ lw_all := lw_g (lw_at lw_m2 9 rfl) rfl
theorem q334 : (Jvm.Cond.soleField "QueryHarbor" "outputs") ∈ lw_all := lw_g (lw_at lw_m2 10 rfl) rfl
theorem q335 : (Jvm.Cond.laysFinal "QueryHarbor" "QueryHarbor" "bundle" "Ljava/util/ArrayList;") ∈ lw_all := lw_g (lw_at lw_m2 11 rfl) rfl
theorem q336 : (Jvm.Cond.soleField "QueryHarbor" "bundle") ∈ lw_all := lw_g (lw_at lw_m2 12 rfl) rfl
theorem q337 : (Jvm.Cond.lays "QueryHarbor" "QueryHarbor" "limit" "I") ∈ lw_all := lw_g (lw_at lw_m2 13 rfl) rfl
theorem q338 : (Jvm.Cond.soleField "QueryHarbor" "limit") ∈ lw_all := lw_g (lw_at lw_m2 14 rfl) rfl
theorem q339 : (Jvm.Cond.lays "QueryHarbor" "QueryHarbor" "isGrouping" "Z") ∈ lw_all := lw_g (lw_at lw_m2 15 rfl) rfl
theorem q340 : (Jvm.Cond.soleField "QueryHarbor" "isGrouping") ∈ lw_all := lw_g (lw_at lw_m2 16 rfl) rfl
theorem q341 : (Jvm.Cond.lays "QueryHarbor" "QueryHarbor" "latest" "LQueryHarbor$Answer;") ∈ lw_all := lw_g (lw_at lw_m2 17 rfl) rfl
theorem q342 : (Jvm.Cond.soleField "QueryHarbor" "latest") ∈ lw_all := lw_g (lw_at lw_m2 18 rfl) rfl
theorem q343 : (Jvm.Cond.lays "QueryHarbor" "QueryHarbor" "losses" "I") ∈ lw_all := lw_g (lw_at lw_m2 19 rfl) rfl
theorem q344 : (Jvm.Cond.soleField "QueryHarbor" "losses") ∈ lw_all := lw_g (lw_at lw_m2 20 rfl) rfl
theorem q345 : (Jvm.Cond.lays "QueryHarbor" "QueryHarbor" "moment" "I") ∈ lw_all := lw_g (lw_at lw_m2 21 rfl) rfl
theorem q346 : (Jvm.Cond.soleField "QueryHarbor" "moment") ∈ lw_all := lw_g (lw_at lw_m2 22 rfl) rfl
theorem q347 : (Jvm.Cond.lays "QueryHarbor" "QueryHarbor" "now" "I") ∈ lw_all := lw_g (lw_at lw_m2 23 rfl) rfl
theorem q348 : (Jvm.Cond.soleField "QueryHarbor" "now") ∈ lw_all := lw_g (lw_at lw_m2 24 rfl) rfl
theorem q349 : (Jvm.Cond.superclass "QueryHarbor" "java/lang/Object") ∈ lw_all := lw_g (lw_at lw_m2 25 rfl) rfl
theorem q351 : (Jvm.Cond.instanceMethod ({ cls := "QueryHarbor", name := "losses", desc := "()I" } : Jvm.MethodName)) ∈ lw_all := lw_g (lw_at lw_m2 27 rfl) rfl
theorem q352 : (Jvm.Cond.selects "QueryHarbor" ({ cls := "QueryHarbor", name := "losses", desc := "()I" } : Jvm.MethodName) ({ cls := "QueryHarbor", name := "losses", desc := "()I" } : Jvm.MethodName)) ∈ lw_all := lw_g (lw_at lw_m2 28 rfl) rfl
theorem q353 : (Jvm.Cond.code ({ cls := "QueryHarbor", name := "losses", desc := "()I" } : Jvm.MethodName) prog_1_method_21_code (1 : Nat) (Option.some Jvm.ClassFile.FieldType.int)) ∈ lw_all := lw_g (lw_at lw_m2 29 rfl) rfl
theorem q355 : (Jvm.Cond.instanceMethod ({ cls := "QueryHarbor", name := "moment", desc := "()I" } : Jvm.MethodName)) ∈ lw_all := lw_g (lw_at lw_m2 31 rfl) rfl
theorem q356 : (Jvm.Cond.selects "QueryHarbor" ({ cls := "QueryHarbor", name := "moment", desc := "()I" } : Jvm.MethodName) ({ cls := "QueryHarbor", name := "moment", desc := "()I" } : Jvm.MethodName)) ∈ lw_all := lw_g (lw_at lw_m2 32 rfl) rfl
theorem q357 : (Jvm.Cond.code ({ cls := "QueryHarbor", name := "moment", desc := "()I" } : Jvm.MethodName) prog_1_method_22_code (1 : Nat) (Option.some Jvm.ClassFile.FieldType.int)) ∈ lw_all := lw_g (lw_at lw_m2 33 rfl) rfl
theorem q359 : (Jvm.Cond.instanceMethod ({ cls := "QueryHarbor", name := "now", desc := "()I" } : Jvm.MethodName)) ∈ lw_all := lw_g (lw_at lw_m2 35 rfl) rfl
theorem q360 : (Jvm.Cond.selects "QueryHarbor" ({ cls := "QueryHarbor", name := "now", desc := "()I" } : Jvm.MethodName) ({ cls := "QueryHarbor", name := "now", desc := "()I" } : Jvm.MethodName)) ∈ lw_all := lw_g (lw_at lw_m2 36 rfl) rfl
theorem q361 : (Jvm.Cond.code ({ cls := "QueryHarbor", name := "now", desc := "()I" } : Jvm.MethodName) prog_1_method_29_code (1 : Nat) (Option.some Jvm.ClassFile.FieldType.int)) ∈ lw_all := lw_g (lw_at lw_m2 37 rfl) rfl
theorem q363 : (Jvm.Cond.instanceMethod ({ cls := "QueryHarbor", name := "clear", desc := "()I" } : Jvm.MethodName)) ∈ lw_all := lw_g (lw_at lw_m2 39 rfl) rfl
theorem q364 : (Jvm.Cond.selects "QueryHarbor" ({ cls := "QueryHarbor", name := "clear", desc := "()I" } : Jvm.MethodName) ({ cls := "QueryHarbor", name := "clear", desc := "()I" } : Jvm.MethodName)) ∈ lw_all := lw_g (lw_at lw_m2 40 rfl) rfl
theorem q365 : (Jvm.Cond.code ({ cls := "QueryHarbor", name := "clear", desc := "()I" } : Jvm.MethodName) prog_1_method_37_code (2 : Nat) (Option.some Jvm.ClassFile.FieldType.int)) ∈ lw_all := lw_g (lw_at lw_m2 41 rfl) rfl
theorem q366 : (Jvm.Cond.methodLink "QueryHarbor" (3 : Nat) ({ cls := "java/util/ArrayList", name := "size", desc := "()I" } : Jvm.MethodName)) ∈ lw_all := lw_g (lw_at lw_m2 42 rfl) rfl
theorem q370 : (Jvm.Cond.methodLink "QueryHarbor" (305 : Nat) ({ cls := "java/util/ArrayList", name := "clear", desc := "()V" } : Jvm.MethodName)) ∈ lw_all := lw_g (lw_at lw_m2 46 rfl) rfl
theorem q375 : (Jvm.Cond.instanceMethod ({ cls := "QueryHarbor", name := "answers", desc := "()I" } : Jvm.MethodName)) ∈ lw_all := lw_g (lw_at lw_m2 51 rfl) rfl
theorem q376 : (Jvm.Cond.selects "QueryHarbor" ({ cls := "QueryHarbor", name := "answers", desc := "()I" } : Jvm.MethodName) ({ cls := "QueryHarbor", name := "answers", desc := "()I" } : Jvm.MethodName)) ∈ lw_all := lw_g (lw_at lw_m2 52 rfl) rfl
theorem q377 : (Jvm.Cond.code ({ cls := "QueryHarbor", name := "answers", desc := "()I" } : Jvm.MethodName) prog_1_method_57_code (1 : Nat) (Option.some Jvm.ClassFile.FieldType.int)) ∈ lw_all := lw_g (lw_at lw_m2 53 rfl) rfl
theorem q379 : (Jvm.Cond.instanceMethod ({ cls := "QueryHarbor", name := "missing", desc := "()I" } : Jvm.MethodName)) ∈ lw_all := lw_g (lw_at lw_m2 55 rfl) rfl
theorem q380 : (Jvm.Cond.selects "QueryHarbor" ({ cls := "QueryHarbor", name := "missing", desc := "()I" } : Jvm.MethodName) ({ cls := "QueryHarbor", name := "missing", desc := "()I" } : Jvm.MethodName)) ∈ lw_all := lw_g (lw_at lw_m2 56 rfl) rfl
theorem q381 : (Jvm.Cond.code ({ cls := "QueryHarbor", name := "missing", desc := "()I" } : Jvm.MethodName) prog_1_method_60_code (1 : Nat) (Option.some Jvm.ClassFile.FieldType.int)) ∈ lw_all := lw_g (lw_at lw_m2 57 rfl) rfl
theorem q383 : (Jvm.Cond.instanceMethod ({ cls := "QueryHarbor", name := "claims", desc := "()I" } : Jvm.MethodName)) ∈ lw_all := lw_g (lw_at lw_m2 59 rfl) rfl
theorem q384 : (Jvm.Cond.selects "QueryHarbor" ({ cls := "QueryHarbor", name := "claims", desc := "()I" } : Jvm.MethodName) ({ cls := "QueryHarbor", name := "claims", desc := "()I" } : Jvm.MethodName)) ∈ lw_all := lw_g (lw_at lw_m2 60 rfl) rfl
theorem q385 : (Jvm.Cond.code ({ cls := "QueryHarbor", name := "claims", desc := "()I" } : Jvm.MethodName) prog_1_method_61_code (1 : Nat) (Option.some Jvm.ClassFile.FieldType.int)) ∈ lw_all := lw_g (lw_at lw_m2 61 rfl) rfl
theorem q387 : (Jvm.Cond.instanceMethod ({ cls := "QueryHarbor", name := "cost", desc := "()I" } : Jvm.MethodName)) ∈ lw_all := lw_g (lw_at lw_m2 63 rfl) rfl
theorem q388 : (Jvm.Cond.selects "QueryHarbor" ({ cls := "QueryHarbor", name := "cost", desc := "()I" } : Jvm.MethodName) ({ cls := "QueryHarbor", name := "cost", desc := "()I" } : Jvm.MethodName)) ∈ lw_all := lw_g (lw_at lw_m2 64 rfl) rfl
theorem q389 : (Jvm.Cond.code ({ cls := "QueryHarbor", name := "cost", desc := "()I" } : Jvm.MethodName) prog_1_method_62_code (1 : Nat) (Option.some Jvm.ClassFile.FieldType.int)) ∈ lw_all := lw_g (lw_at lw_m2 65 rfl) rfl
theorem q391 : (Jvm.Cond.instanceMethod ({ cls := "QueryHarbor", name := "attempts", desc := "()I" } : Jvm.MethodName)) ∈ lw_all := lw_g (lw_at lw_m2 67 rfl) rfl
theorem q392 : (Jvm.Cond.selects "QueryHarbor" ({ cls := "QueryHarbor", name := "attempts", desc := "()I" } : Jvm.MethodName) ({ cls := "QueryHarbor", name := "attempts", desc := "()I" } : Jvm.MethodName)) ∈ lw_all := lw_g (lw_at lw_m2 68 rfl) rfl
theorem q393 : (Jvm.Cond.code ({ cls := "QueryHarbor", name := "attempts", desc := "()I" } : Jvm.MethodName) prog_1_method_63_code (1 : Nat) (Option.some Jvm.ClassFile.FieldType.int)) ∈ lw_all := lw_g (lw_at lw_m2 69 rfl) rfl
theorem q395 : (Jvm.Cond.instanceMethod ({ cls := "QueryHarbor", name := "shipped", desc := "()I" } : Jvm.MethodName)) ∈ lw_all := lw_g (lw_at lw_m2 71 rfl) rfl
theorem q396 : (Jvm.Cond.selects "QueryHarbor" ({ cls := "QueryHarbor", name := "shipped", desc := "()I" } : Jvm.MethodName) ({ cls := "QueryHarbor", name := "shipped", desc := "()I" } : Jvm.MethodName)) ∈ lw_all := lw_g (lw_at lw_m2 72 rfl) rfl
theorem q397 : (Jvm.Cond.code ({ cls := "QueryHarbor", name := "shipped", desc := "()I" } : Jvm.MethodName) prog_1_method_64_code (1 : Nat) (Option.some Jvm.ClassFile.FieldType.int)) ∈ lw_all := lw_g (lw_at lw_m2 73 rfl) rfl
theorem q399 : (Jvm.Cond.instanceMethod ({ cls := "QueryHarbor", name := "entries", desc := "()I" } : Jvm.MethodName)) ∈ lw_all := lw_g (lw_at lw_m2 75 rfl) rfl
theorem q400 : (Jvm.Cond.selects "QueryHarbor" ({ cls := "QueryHarbor", name := "entries", desc := "()I" } : Jvm.MethodName) ({ cls := "QueryHarbor", name := "entries", desc := "()I" } : Jvm.MethodName)) ∈ lw_all := lw_g (lw_at lw_m2 76 rfl) rfl
theorem q401 : (Jvm.Cond.code ({ cls := "QueryHarbor", name := "entries", desc := "()I" } : Jvm.MethodName) prog_1_method_67_code (1 : Nat) (Option.some Jvm.ClassFile.FieldType.int)) ∈ lw_all := lw_g (lw_at lw_m2 77 rfl) rfl
theorem q487 : (Jvm.Cond.instanceMethod ({ cls := "QueryHarbor", name := "add", desc := "(IIIII)I" } : Jvm.MethodName)) ∈ lw_all := lw_g (lw_at lw_m2 163 rfl) rfl
theorem q488 : (Jvm.Cond.selects "QueryHarbor" ({ cls := "QueryHarbor", name := "add", desc := "(IIIII)I" } : Jvm.MethodName) ({ cls := "QueryHarbor", name := "add", desc := "(IIIII)I" } : Jvm.MethodName)) ∈ lw_all := lw_g (lw_at lw_m2 164 rfl) rfl
theorem q489 : (Jvm.Cond.code ({ cls := "QueryHarbor", name := "add", desc := "(IIIII)I" } : Jvm.MethodName) prog_1_method_14_code (11 : Nat) (Option.some Jvm.ClassFile.FieldType.int)) ∈ lw_all := lw_g (lw_at lw_m2 165 rfl) rfl
theorem q490 : (Jvm.Cond.methodLink "QueryHarbor" (179 : Nat) ({ cls := "QueryHarbor", name := "sourceAt", desc := "(I)LQueryHarbor$Source;" } : Jvm.MethodName)) ∈ lw_all := lw_g (lw_at lw_m2 166 rfl) rfl
theorem q491 : (Jvm.Cond.privateMethod ({ cls := "QueryHarbor", name := "sourceAt", desc := "(I)LQueryHarbor$Source;" } : Jvm.MethodName)) ∈ lw_tbl := lw_at lw_m2 167 rfl
theorem q492 : (Jvm.Cond.instanceMethod ({ cls := "QueryHarbor", name := "sourceAt", desc := "(I)LQueryHarbor$Source;" } : Jvm.MethodName)) ∈ lw_all := lw_g (lw_at lw_m2 168 rfl) rfl
theorem q493 : (Jvm.Cond.code ({ cls := "QueryHarbor", name := "sourceAt", desc := "(I)LQueryHarbor$Source;" } : Jvm.MethodName) prog_1_method_9_code (2 : Nat) (Option.some (Jvm.ClassFile.FieldType.object "QueryHarbor$Source"))) ∈ lw_all := lw_g (lw_at lw_m2 169 rfl) rfl
theorem q494 : (Jvm.Cond.methodLink "QueryHarbor" (112 : Nat) ({ cls := "QueryHarbor", name := "known", desc := "(II)I" } : Jvm.MethodName)) ∈ lw_all := lw_g (lw_at lw_m2 170 rfl) rfl
theorem q495 : (Jvm.Cond.static ({ cls := "QueryHarbor", name := "known", desc := "(II)I" } : Jvm.MethodName)) ∈ lw_all := lw_g (lw_at lw_m2 171 rfl) rfl
theorem q496 : (Jvm.Cond.code ({ cls := "QueryHarbor", name := "known", desc := "(II)I" } : Jvm.MethodName) prog_1_method_5_code (2 : Nat) (Option.some Jvm.ClassFile.FieldType.int)) ∈ lw_all := lw_g (lw_at lw_m2 172 rfl) rfl
theorem q497 : (Jvm.Cond.classLink "QueryHarbor" (91 : Nat) "java/lang/IndexOutOfBoundsException") ∈ lw_all := lw_g (lw_at lw_m2 173 rfl) rfl
theorem q506 : (Jvm.Cond.stringRef "QueryHarbor" (93 : Nat) "number") ∈ lw_tbl := lw_at lw_m2 182 rfl
theorem q507 : (Jvm.Cond.methodLink "QueryHarbor" (95 : Nat) ({ cls := "java/lang/IndexOutOfBoundsException", name := "<init>", desc := "(Ljava/lang/String;)V" } : Jvm.MethodName)) ∈ lw_all := lw_g (lw_at lw_m2 183 rfl) rfl
theorem q510 : (Jvm.Cond.interfaceEntry "QueryHarbor" (187 : Nat)) ∈ lw_tbl := lw_at lw_m2 186 rfl
theorem q511 : (Jvm.Cond.methodLink "QueryHarbor" (187 : Nat) ({ cls := "QueryHarbor$Store", name := "isFit", desc := "(II)Z" } : Jvm.MethodName)) ∈ lw_all := lw_g (lw_at lw_m2 187 rfl) rfl
theorem q521 : (Jvm.Cond.static ({ cls := "QueryHarbor", name := "isKey", desc := "(I)Z" } : Jvm.MethodName)) ∈ lw_all := lw_g (lw_at lw_m2 197 rfl) rfl
theorem q522 : (Jvm.Cond.code ({ cls := "QueryHarbor", name := "isKey", desc := "(I)Z" } : Jvm.MethodName) prog_1_method_2_code (1 : Nat) (Option.some Jvm.ClassFile.FieldType.boolean)) ∈ lw_all := lw_g (lw_at lw_m2 198 rfl) rfl
theorem q527 : (Jvm.Cond.static ({ cls := "QueryHarbor", name := "isNumber", desc := "(I)Z" } : Jvm.MethodName)) ∈ lw_all := lw_g (lw_at lw_m2 203 rfl) rfl
theorem q528 : (Jvm.Cond.code ({ cls := "QueryHarbor", name := "isNumber", desc := "(I)Z" } : Jvm.MethodName) prog_1_method_1_code (1 : Nat) (Option.some Jvm.ClassFile.FieldType.boolean)) ∈ lw_all := lw_g (lw_at lw_m2 204 rfl) rfl
theorem q540 : (Jvm.Cond.methodLink "QueryHarbor" (103 : Nat) ({ cls := "QueryHarbor", name := "fit", desc := "(Z)V" } : Jvm.MethodName)) ∈ lw_all := lw_g (lw_at lw_m2 216 rfl) rfl
theorem q541 : (Jvm.Cond.static ({ cls := "QueryHarbor", name := "fit", desc := "(Z)V" } : Jvm.MethodName)) ∈ lw_all := lw_g (lw_at lw_m2 217 rfl) rfl
theorem q542 : (Jvm.Cond.code ({ cls := "QueryHarbor", name := "fit", desc := "(Z)V" } : Jvm.MethodName) prog_1_method_6_code (1 : Nat) (Option.none : Option Jvm.ClassFile.FieldType)) ∈ lw_all := lw_g (lw_at lw_m2 218 rfl) rfl
theorem q543 : (Jvm.Cond.classLink "QueryHarbor" (98 : Nat) "java/lang/IllegalArgumentException") ∈ lw_all := lw_g (lw_at lw_m2 219 rfl) rfl
theorem q552 : (Jvm.Cond.stringRef "QueryHarbor" (100 : Nat) "unfit") ∈ lw_tbl := lw_at lw_m2 228 rfl
theorem q553 : (Jvm.Cond.methodLink "QueryHarbor" (102 : Nat) ({ cls := "java/lang/IllegalArgumentException", name := "<init>", desc := "(Ljava/lang/String;)V" } : Jvm.MethodName)) ∈ lw_all := lw_g (lw_at lw_m2 229 rfl) rfl
theorem q560 : (Jvm.Cond.interfaceEntry "QueryHarbor" (196 : Nat)) ∈ lw_tbl := lw_at lw_m2 236 rfl
theorem q561 : (Jvm.Cond.methodLink "QueryHarbor" (196 : Nat) ({ cls := "QueryHarbor$Store", name := "hasKey", desc := "()Z" } : Jvm.MethodName)) ∈ lw_all := lw_g (lw_at lw_m2 237 rfl) rfl
theorem q574 : (Jvm.Cond.methodLink "QueryHarbor" (200 : Nat) ({ cls := "QueryHarbor$Source", name := "placeOf", desc := "(I)I" } : Jvm.MethodName)) ∈ lw_all := lw_g (lw_at lw_m3 10 rfl) rfl
theorem q594 : (Jvm.Cond.methodLink "QueryHarbor" (207 : Nat) ({ cls := "QueryHarbor", name := "allowed", desc := "(Z)V" } : Jvm.MethodName)) ∈ lw_all := lw_g (lw_at lw_m3 30 rfl) rfl
theorem q595 : (Jvm.Cond.static ({ cls := "QueryHarbor", name := "allowed", desc := "(Z)V" } : Jvm.MethodName)) ∈ lw_all := lw_g (lw_at lw_m3 31 rfl) rfl
theorem q596 : (Jvm.Cond.code ({ cls := "QueryHarbor", name := "allowed", desc := "(Z)V" } : Jvm.MethodName) prog_1_method_8_code (1 : Nat) (Option.none : Option Jvm.ClassFile.FieldType)) ∈ lw_all := lw_g (lw_at lw_m3 32 rfl) rfl
theorem q597 : (Jvm.Cond.classLink "QueryHarbor" (107 : Nat) "java/lang/IllegalStateException") ∈ lw_all := lw_g (lw_at lw_m3 33 rfl) rfl
theorem q606 : (Jvm.Cond.stringRef "QueryHarbor" (109 : Nat) "state") ∈ lw_tbl := lw_at lw_m3 42 rfl
theorem q607 : (Jvm.Cond.methodLink "QueryHarbor" (111 : Nat) ({ cls := "java/lang/IllegalStateException", name := "<init>", desc := "(Ljava/lang/String;)V" } : Jvm.MethodName)) ∈ lw_all := lw_g (lw_at lw_m3 43 rfl) rfl
theorem q613 : (Jvm.Cond.interfaceEntry "QueryHarbor" (210 : Nat)) ∈ lw_tbl := lw_at lw_m3 49 rfl
theorem q614 : (Jvm.Cond.methodLink "QueryHarbor" (210 : Nat) ({ cls := "QueryHarbor$Store", name := "kept", desc := "(II)I" } : Jvm.MethodName)) ∈ lw_all := lw_g (lw_at lw_m3 50 rfl) rfl
theorem q633 : (Jvm.Cond.classLink "QueryHarbor" (216 : Nat) "QueryHarbor$Row") ∈ lw_all := lw_g (lw_at lw_m3 69 rfl) rfl
theorem q635 : (Jvm.Cond.methodLink "QueryHarbor" (218 : Nat) ({ cls := "QueryHarbor$Row", name := "<init>", desc := "(I[I)V" } : Jvm.MethodName)) ∈ lw_all := lw_g (lw_at lw_m3 71 rfl) rfl
theorem q642 : (Jvm.Cond.fieldLink "QueryHarbor" (248 : Nat) "QueryHarbor$Row" "mark" "I") ∈ lw_all := lw_g (lw_at lw_m3 78 rfl) rfl
theorem q646 : (Jvm.Cond.fieldLink "QueryHarbor" (244 : Nat) "QueryHarbor$Row" "cells" "[I") ∈ lw_all := lw_g (lw_at lw_m3 82 rfl) rfl
theorem q652 : (Jvm.Cond.methodLink "QueryHarbor" (221 : Nat) ({ cls := "QueryHarbor$Source", name := "lay", desc := "(LQueryHarbor$Row;)V" } : Jvm.MethodName)) ∈ lw_all := lw_g (lw_at lw_m3 88 rfl) rfl
theorem q922 : (Jvm.Cond.selects "QueryHarbor" ({ cls := "java/lang/Object", name := "getClass", desc := "()Ljava/lang/Class;" } : Jvm.MethodName) ({ cls := "java/lang/Object", name := "getClass", desc := "()Ljava/lang/Class;" } : Jvm.MethodName)) ∈ lw_all := lw_g (lw_at lw_m4 118 rfl) rfl
theorem q958 : (Jvm.Cond.methodLink "QueryHarbor" (225 : Nat) ({ cls := "QueryHarbor", name := "written", desc := "(LQueryHarbor$Source;)V" } : Jvm.MethodName)) ∈ lw_all := lw_g (lw_at lw_m4 154 rfl) rfl
theorem q959 : (Jvm.Cond.privateMethod ({ cls := "QueryHarbor", name := "written", desc := "(LQueryHarbor$Source;)V" } : Jvm.MethodName)) ∈ lw_tbl := lw_at lw_m4 155 rfl
theorem q960 : (Jvm.Cond.instanceMethod ({ cls := "QueryHarbor", name := "written", desc := "(LQueryHarbor$Source;)V" } : Jvm.MethodName)) ∈ lw_all := lw_g (lw_at lw_m4 156 rfl) rfl
theorem q961 : (Jvm.Cond.code ({ cls := "QueryHarbor", name := "written", desc := "(LQueryHarbor$Source;)V" } : Jvm.MethodName) prog_1_method_13_code (2 : Nat) (Option.none : Option Jvm.ClassFile.FieldType)) ∈ lw_all := lw_g (lw_at lw_m4 157 rfl) rfl
theorem q962 : (Jvm.Cond.methodLink "QueryHarbor" (159 : Nat) ({ cls := "java/lang/Integer", name := "valueOf", desc := "(I)Ljava/lang/Integer;" } : Jvm.MethodName)) ∈ lw_all := lw_g (lw_at lw_m4 158 rfl) rfl
theorem q982 : (Jvm.Cond.methodLink "QueryHarbor" (165 : Nat) ({ cls := "java/util/ArrayList", name := "add", desc := "(Ljava/lang/Object;)Z" } : Jvm.MethodName)) ∈ lw_all := lw_g (lw_at lw_m4 178 rfl) rfl
theorem q990 : (Jvm.Cond.classLink "QueryHarbor" (119 : Nat) "QueryHarbor$Message") ∈ lw_all := lw_g (lw_at lw_m4 186 rfl) rfl
theorem q992 : (Jvm.Cond.methodLink "QueryHarbor" (172 : Nat) ({ cls := "QueryHarbor$Message", name := "<init>", desc := "(III)V" } : Jvm.MethodName)) ∈ lw_all := lw_g (lw_at lw_m4 188 rfl) rfl
theorem q997 : (Jvm.Cond.fieldLink "QueryHarbor" (149 : Nat) "QueryHarbor$Message" "source" "I") ∈ lw_all := lw_g (lw_at lw_m4 193 rfl) rfl
theorem q999 : (Jvm.Cond.fieldLink "QueryHarbor" (121 : Nat) "QueryHarbor$Message" "due" "I") ∈ lw_all := lw_g (lw_at lw_m4 195 rfl) rfl
theorem q1001 : (Jvm.Cond.fieldLink "QueryHarbor" (154 : Nat) "QueryHarbor$Message" "moment" "I") ∈ lw_all := lw_g (lw_at lw_m4 197 rfl) rfl
theorem q1009 : (Jvm.Cond.methodLink "QueryHarbor" (175 : Nat) ({ cls := "QueryHarbor", name := "goTo", desc := "(I)V" } : Jvm.MethodName)) ∈ lw_all := lw_g (lw_at lw_m4 205 rfl) rfl
theorem q1010 : (Jvm.Cond.privateMethod ({ cls := "QueryHarbor", name := "goTo", desc := "(I)V" } : Jvm.MethodName)) ∈ lw_tbl := lw_at lw_m4 206 rfl
theorem q1011 : (Jvm.Cond.instanceMethod ({ cls := "QueryHarbor", name := "goTo", desc := "(I)V" } : Jvm.MethodName)) ∈ lw_all := lw_g (lw_at lw_m4 207 rfl) rfl
theorem q1012 : (Jvm.Cond.code ({ cls := "QueryHarbor", name := "goTo", desc := "(I)V" } : Jvm.MethodName) prog_1_method_11_code (4 : Nat) (Option.none : Option Jvm.ClassFile.FieldType)) ∈ lw_all := lw_g (lw_at lw_m4 208 rfl) rfl
theorem q1013 : (Jvm.Cond.methodLink "QueryHarbor" (9 : Nat) ({ cls := "java/util/ArrayList", name := "get", desc := "(I)Ljava/lang/Object;" } : Jvm.MethodName)) ∈ lw_all := lw_g (lw_at lw_m4 209 rfl) rfl
theorem q1014 : (Jvm.Cond.methodLink "QueryHarbor" (124 : Nat) ({ cls := "java/util/ArrayList", name := "remove", desc := "(I)Ljava/lang/Object;" } : Jvm.MethodName)) ∈ lw_all := lw_g (lw_at lw_m4 210 rfl) rfl
theorem q1022 : (Jvm.Cond.methodLink "QueryHarbor" (127 : Nat) ({ cls := "QueryHarbor", name := "drop", desc := "(LQueryHarbor$Message;)V" } : Jvm.MethodName)) ∈ lw_all := lw_g (lw_at lw_m4 218 rfl) rfl
theorem q1023 : (Jvm.Cond.privateMethod ({ cls := "QueryHarbor", name := "drop", desc := "(LQueryHarbor$Message;)V" } : Jvm.MethodName)) ∈ lw_tbl := lw_at lw_m4 219 rfl
theorem q1024 : (Jvm.Cond.instanceMethod ({ cls := "QueryHarbor", name := "drop", desc := "(LQueryHarbor$Message;)V" } : Jvm.MethodName)) ∈ lw_all := lw_g (lw_at lw_m4 220 rfl) rfl
theorem q1025 : (Jvm.Cond.code ({ cls := "QueryHarbor", name := "drop", desc := "(LQueryHarbor$Message;)V" } : Jvm.MethodName) prog_1_method_12_code (4 : Nat) (Option.none : Option Jvm.ClassFile.FieldType)) ∈ lw_all := lw_g (lw_at lw_m4 221 rfl) rfl
theorem q1026 : (Jvm.Cond.classLink "QueryHarbor" (131 : Nat) "QueryHarbor$Entry") ∈ lw_all := lw_g (lw_at lw_m4 222 rfl) rfl
theorem q1031 : (Jvm.Cond.instanceMethod ({ cls := "QueryHarbor", name := "change", desc := "(IIII)I" } : Jvm.MethodName)) ∈ lw_all := lw_g (lw_at lw_m4 227 rfl) rfl
theorem q1032 : (Jvm.Cond.selects "QueryHarbor" ({ cls := "QueryHarbor", name := "change", desc := "(IIII)I" } : Jvm.MethodName) ({ cls := "QueryHarbor", name := "change", desc := "(IIII)I" } : Jvm.MethodName)) ∈ lw_all := lw_g (lw_at lw_m4 228 rfl) rfl
theorem q1033 : (Jvm.Cond.code ({ cls := "QueryHarbor", name := "change", desc := "(IIII)I" } : Jvm.MethodName) prog_1_method_16_code (9 : Nat) (Option.some Jvm.ClassFile.FieldType.int)) ∈ lw_all := lw_g (lw_at lw_m4 229 rfl) rfl
theorem q1034 : (Jvm.Cond.methodLink "QueryHarbor" (229 : Nat) ({ cls := "QueryHarbor", name := "rowOf", desc := "(LQueryHarbor$Source;I)LQueryHarbor$Row;" } : Jvm.MethodName)) ∈ lw_all := lw_g (lw_at lw_m4 230 rfl) rfl
theorem q1035 : (Jvm.Cond.static ({ cls := "QueryHarbor", name := "rowOf", desc := "(LQueryHarbor$Source;I)LQueryHarbor$Row;" } : Jvm.MethodName)) ∈ lw_all := lw_g (lw_at lw_m4 231 rfl) rfl
theorem q1036 : (Jvm.Cond.code ({ cls := "QueryHarbor", name := "rowOf", desc := "(LQueryHarbor$Source;I)LQueryHarbor$Row;" } : Jvm.MethodName) prog_1_method_15_code (3 : Nat) (Option.some (Jvm.ClassFile.FieldType.object "QueryHarbor$Row"))) ∈ lw_all := lw_g (lw_at lw_m4 232 rfl) rfl
theorem q1037 : (Jvm.Cond.interfaceEntry "QueryHarbor" (233 : Nat)) ∈ lw_tbl := lw_at lw_m4 233 rfl
theorem q1038 : (Jvm.Cond.methodLink "QueryHarbor" (233 : Nat) ({ cls := "QueryHarbor$Store", name := "columns", desc := "()I" } : Jvm.MethodName)) ∈ lw_all := lw_g (lw_at lw_m4 234 rfl) rfl
theorem q1051 : (Jvm.Cond.methodLink "QueryHarbor" (236 : Nat) ({ cls := "QueryHarbor$Row", name := "with", desc := "(II)LQueryHarbor$Row;" } : Jvm.MethodName)) ∈ lw_all := lw_g (lw_at lw_m5 7 rfl) rfl
theorem q1058 : (Jvm.Cond.methodLink "QueryHarbor" (240 : Nat) ({ cls := "QueryHarbor", name := "replace", desc := "(LQueryHarbor$Source;LQueryHarbor$Row;)V" } : Jvm.MethodName)) ∈ lw_all := lw_g (lw_at lw_m5 14 rfl) rfl
theorem q1059 : (Jvm.Cond.privateMethod ({ cls := "QueryHarbor", name := "replace", desc := "(LQueryHarbor$Source;LQueryHarbor$Row;)V" } : Jvm.MethodName)) ∈ lw_tbl := lw_at lw_m5 15 rfl
theorem q1060 : (Jvm.Cond.instanceMethod ({ cls := "QueryHarbor", name := "replace", desc := "(LQueryHarbor$Source;LQueryHarbor$Row;)V" } : Jvm.MethodName)) ∈ lw_all := lw_g (lw_at lw_m5 16 rfl) rfl
theorem q1061 : (Jvm.Cond.code ({ cls := "QueryHarbor", name := "replace", desc := "(LQueryHarbor$Source;LQueryHarbor$Row;)V" } : Jvm.MethodName) prog_1_method_17_code (3 : Nat) (Option.none : Option Jvm.ClassFile.FieldType)) ∈ lw_all := lw_g (lw_at lw_m5 17 rfl) rfl
theorem q1062 : (Jvm.Cond.methodLink "QueryHarbor" (251 : Nat) ({ cls := "java/util/ArrayList", name := "set", desc := "(ILjava/lang/Object;)Ljava/lang/Object;" } : Jvm.MethodName)) ∈ lw_all := lw_g (lw_at lw_m5 18 rfl) rfl
theorem q1070 : (Jvm.Cond.instanceMethod ({ cls := "QueryHarbor", name := "remove", desc := "(II)I" } : Jvm.MethodName)) ∈ lw_all := lw_g (lw_at lw_m5 26 rfl) rfl
theorem q1071 : (Jvm.Cond.selects "QueryHarbor" ({ cls := "QueryHarbor", name := "remove", desc := "(II)I" } : Jvm.MethodName) ({ cls := "QueryHarbor", name := "remove", desc := "(II)I" } : Jvm.MethodName)) ∈ lw_all := lw_g (lw_at lw_m5 27 rfl) rfl
theorem q1072 : (Jvm.Cond.code ({ cls := "QueryHarbor", name := "remove", desc := "(II)I" } : Jvm.MethodName) prog_1_method_18_code (4 : Nat) (Option.some Jvm.ClassFile.FieldType.int)) ∈ lw_all := lw_g (lw_at lw_m5 28 rfl) rfl
theorem q1077 : (Jvm.Cond.instanceMethod ({ cls := "QueryHarbor", name := "count", desc := "(I)I" } : Jvm.MethodName)) ∈ lw_all := lw_g (lw_at lw_m5 33 rfl) rfl
theorem q1078 : (Jvm.Cond.selects "QueryHarbor" ({ cls := "QueryHarbor", name := "count", desc := "(I)I" } : Jvm.MethodName) ({ cls := "QueryHarbor", name := "count", desc := "(I)I" } : Jvm.MethodName)) ∈ lw_all := lw_g (lw_at lw_m5 34 rfl) rfl
theorem q1079 : (Jvm.Cond.code ({ cls := "QueryHarbor", name := "count", desc := "(I)I" } : Jvm.MethodName) prog_1_method_19_code (2 : Nat) (Option.some Jvm.ClassFile.FieldType.int)) ∈ lw_all := lw_g (lw_at lw_m5 35 rfl) rfl
theorem q1084 : (Jvm.Cond.instanceMethod ({ cls := "QueryHarbor", name := "cell", desc := "(III)I" } : Jvm.MethodName)) ∈ lw_all := lw_g (lw_at lw_m5 40 rfl) rfl
theorem q1085 : (Jvm.Cond.selects "QueryHarbor" ({ cls := "QueryHarbor", name := "cell", desc := "(III)I" } : Jvm.MethodName) ({ cls := "QueryHarbor", name := "cell", desc := "(III)I" } : Jvm.MethodName)) ∈ lw_all := lw_g (lw_at lw_m5 41 rfl) rfl
theorem q1086 : (Jvm.Cond.code ({ cls := "QueryHarbor", name := "cell", desc := "(III)I" } : Jvm.MethodName) prog_1_method_20_code (6 : Nat) (Option.some Jvm.ClassFile.FieldType.int)) ∈ lw_all := lw_g (lw_at lw_m5 42 rfl) rfl
theorem q1091 : (Jvm.Cond.instanceMethod ({ cls := "QueryHarbor", name := "setPace", desc := "(III)I" } : Jvm.MethodName)) ∈ lw_all := lw_g (lw_at lw_m5 47 rfl) rfl
theorem q1092 : (Jvm.Cond.selects "QueryHarbor" ({ cls := "QueryHarbor", name := "setPace", desc := "(III)I" } : Jvm.MethodName) ({ cls := "QueryHarbor", name := "setPace", desc := "(III)I" } : Jvm.MethodName)) ∈ lw_all := lw_g (lw_at lw_m5 48 rfl) rfl
theorem q1093 : (Jvm.Cond.code ({ cls := "QueryHarbor", name := "setPace", desc := "(III)I" } : Jvm.MethodName) prog_1_method_23_code (6 : Nat) (Option.some Jvm.ClassFile.FieldType.int)) ∈ lw_all := lw_g (lw_at lw_m5 49 rfl) rfl
theorem q1094 : (Jvm.Cond.methodLink "QueryHarbor" (255 : Nat) ({ cls := "QueryHarbor", name := "lineAt", desc := "(I)LQueryHarbor$Line;" } : Jvm.MethodName)) ∈ lw_all := lw_g (lw_at lw_m5 50 rfl) rfl
theorem q1095 : (Jvm.Cond.privateMethod ({ cls := "QueryHarbor", name := "lineAt", desc := "(I)LQueryHarbor$Line;" } : Jvm.MethodName)) ∈ lw_tbl := lw_at lw_m5 51 rfl
theorem q1096 : (Jvm.Cond.instanceMethod ({ cls := "QueryHarbor", name := "lineAt", desc := "(I)LQueryHarbor$Line;" } : Jvm.MethodName)) ∈ lw_all := lw_g (lw_at lw_m5 52 rfl) rfl
theorem q1097 : (Jvm.Cond.code ({ cls := "QueryHarbor", name := "lineAt", desc := "(I)LQueryHarbor$Line;" } : Jvm.MethodName) prog_1_method_10_code (2 : Nat) (Option.some (Jvm.ClassFile.FieldType.object "QueryHarbor$Line"))) ∈ lw_all := lw_g (lw_at lw_m5 53 rfl) rfl
theorem q1098 : (Jvm.Cond.methodLink "QueryHarbor" (259 : Nat) ({ cls := "QueryHarbor", name := "inRange", desc := "(III)V" } : Jvm.MethodName)) ∈ lw_all := lw_g (lw_at lw_m5 54 rfl) rfl
theorem q1099 : (Jvm.Cond.static ({ cls := "QueryHarbor", name := "inRange", desc := "(III)V" } : Jvm.MethodName)) ∈ lw_all := lw_g (lw_at lw_m5 55 rfl) rfl
theorem q1100 : (Jvm.Cond.code ({ cls := "QueryHarbor", name := "inRange", desc := "(III)V" } : Jvm.MethodName) prog_1_method_7_code (3 : Nat) (Option.none : Option Jvm.ClassFile.FieldType)) ∈ lw_all := lw_g (lw_at lw_m5 56 rfl) rfl
theorem q1105 : (Jvm.Cond.instanceMethod ({ cls := "QueryHarbor", name := "setBounds", desc := "(III)I" } : Jvm.MethodName)) ∈ lw_all := lw_g (lw_at lw_m5 61 rfl) rfl
theorem q1106 : (Jvm.Cond.selects "QueryHarbor" ({ cls := "QueryHarbor", name := "setBounds", desc := "(III)I" } : Jvm.MethodName) ({ cls := "QueryHarbor", name := "setBounds", desc := "(III)I" } : Jvm.MethodName)) ∈ lw_all := lw_g (lw_at lw_m5 62 rfl) rfl
theorem q1107 : (Jvm.Cond.code ({ cls := "QueryHarbor", name := "setBounds", desc := "(III)I" } : Jvm.MethodName) prog_1_method_24_code (6 : Nat) (Option.some Jvm.ClassFile.FieldType.int)) ∈ lw_all := lw_g (lw_at lw_m5 63 rfl) rfl
theorem q1112 : (Jvm.Cond.instanceMethod ({ cls := "QueryHarbor", name := "setLease", desc := "(II)I" } : Jvm.MethodName)) ∈ lw_all := lw_g (lw_at lw_m5 68 rfl) rfl
theorem q1113 : (Jvm.Cond.selects "QueryHarbor" ({ cls := "QueryHarbor", name := "setLease", desc := "(II)I" } : Jvm.MethodName) ({ cls := "QueryHarbor", name := "setLease", desc := "(II)I" } : Jvm.MethodName)) ∈ lw_all := lw_g (lw_at lw_m5 69 rfl) rfl
theorem q1114 : (Jvm.Cond.code ({ cls := "QueryHarbor", name := "setLease", desc := "(II)I" } : Jvm.MethodName) prog_1_method_25_code (5 : Nat) (Option.some Jvm.ClassFile.FieldType.int)) ∈ lw_all := lw_g (lw_at lw_m5 70 rfl) rfl
theorem q1119 : (Jvm.Cond.instanceMethod ({ cls := "QueryHarbor", name := "fail", desc := "(IIZ)I" } : Jvm.MethodName)) ∈ lw_all := lw_g (lw_at lw_m5 75 rfl) rfl
theorem q1120 : (Jvm.Cond.selects "QueryHarbor" ({ cls := "QueryHarbor", name := "fail", desc := "(IIZ)I" } : Jvm.MethodName) ({ cls := "QueryHarbor", name := "fail", desc := "(IIZ)I" } : Jvm.MethodName)) ∈ lw_all := lw_g (lw_at lw_m5 76 rfl) rfl
theorem q1121 : (Jvm.Cond.code ({ cls := "QueryHarbor", name := "fail", desc := "(IIZ)I" } : Jvm.MethodName) prog_1_method_26_code (6 : Nat) (Option.some Jvm.ClassFile.FieldType.int)) ∈ lw_all := lw_g (lw_at lw_m5 77 rfl) rfl
theorem q1126 : (Jvm.Cond.instanceMethod ({ cls := "QueryHarbor", name := "forbid", desc := "(IIZ)Z" } : Jvm.MethodName)) ∈ lw_all := lw_g (lw_at lw_m5 82 rfl) rfl
theorem q1127 : (Jvm.Cond.selects "QueryHarbor" ({ cls := "QueryHarbor", name := "forbid", desc := "(IIZ)Z" } : Jvm.MethodName) ({ cls := "QueryHarbor", name := "forbid", desc := "(IIZ)Z" } : Jvm.MethodName)) ∈ lw_all := lw_g (lw_at lw_m5 83 rfl) rfl
theorem q1128 : (Jvm.Cond.code ({ cls := "QueryHarbor", name := "forbid", desc := "(IIZ)Z" } : Jvm.MethodName) prog_1_method_27_code (5 : Nat) (Option.some Jvm.ClassFile.FieldType.boolean)) ∈ lw_all := lw_g (lw_at lw_m5 84 rfl) rfl
theorem q1133 : (Jvm.Cond.instanceMethod ({ cls := "QueryHarbor", name := "pass", desc := "(I)I" } : Jvm.MethodName)) ∈ lw_all := lw_g (lw_at lw_m5 89 rfl) rfl
theorem q1134 : (Jvm.Cond.selects "QueryHarbor" ({ cls := "QueryHarbor", name := "pass", desc := "(I)I" } : Jvm.MethodName) ({ cls := "QueryHarbor", name := "pass", desc := "(I)I" } : Jvm.MethodName)) ∈ lw_all := lw_g (lw_at lw_m5 90 rfl) rfl
theorem q1135 : (Jvm.Cond.code ({ cls := "QueryHarbor", name := "pass", desc := "(I)I" } : Jvm.MethodName) prog_1_method_28_code (2 : Nat) (Option.some Jvm.ClassFile.FieldType.int)) ∈ lw_all := lw_g (lw_at lw_m5 91 rfl) rfl
theorem q1140 : (Jvm.Cond.instanceMethod ({ cls := "QueryHarbor", name := "seat", desc := "(I)I" } : Jvm.MethodName)) ∈ lw_all := lw_g (lw_at lw_m5 96 rfl) rfl
theorem q1141 : (Jvm.Cond.selects "QueryHarbor" ({ cls := "QueryHarbor", name := "seat", desc := "(I)I" } : Jvm.MethodName) ({ cls := "QueryHarbor", name := "seat", desc := "(I)I" } : Jvm.MethodName)) ∈ lw_all := lw_g (lw_at lw_m5 97 rfl) rfl
theorem q1142 : (Jvm.Cond.code ({ cls := "QueryHarbor", name := "seat", desc := "(I)I" } : Jvm.MethodName) prog_1_method_32_code (2 : Nat) (Option.some Jvm.ClassFile.FieldType.int)) ∈ lw_all := lw_g (lw_at lw_m5 98 rfl) rfl
theorem q1147 : (Jvm.Cond.instanceMethod ({ cls := "QueryHarbor", name := "link", desc := "(IIII)I" } : Jvm.MethodName)) ∈ lw_all := lw_g (lw_at lw_m5 103 rfl) rfl
theorem q1148 : (Jvm.Cond.selects "QueryHarbor" ({ cls := "QueryHarbor", name := "link", desc := "(IIII)I" } : Jvm.MethodName) ({ cls := "QueryHarbor", name := "link", desc := "(IIII)I" } : Jvm.MethodName)) ∈ lw_all := lw_g (lw_at lw_m5 104 rfl) rfl
theorem q1149 : (Jvm.Cond.code ({ cls := "QueryHarbor", name := "link", desc := "(IIII)I" } : Jvm.MethodName) prog_1_method_33_code (5 : Nat) (Option.some Jvm.ClassFile.FieldType.int)) ∈ lw_all := lw_g (lw_at lw_m5 105 rfl) rfl
theorem q1150 : (Jvm.Cond.methodLink "QueryHarbor" (284 : Nat) ({ cls := "QueryHarbor", name := "knownColumn", desc := "(II)V" } : Jvm.MethodName)) ∈ lw_all := lw_g (lw_at lw_m5 106 rfl) rfl
theorem q1151 : (Jvm.Cond.privateMethod ({ cls := "QueryHarbor", name := "knownColumn", desc := "(II)V" } : Jvm.MethodName)) ∈ lw_tbl := lw_at lw_m5 107 rfl
theorem q1152 : (Jvm.Cond.instanceMethod ({ cls := "QueryHarbor", name := "knownColumn", desc := "(II)V" } : Jvm.MethodName)) ∈ lw_all := lw_g (lw_at lw_m5 108 rfl) rfl
theorem q1153 : (Jvm.Cond.code ({ cls := "QueryHarbor", name := "knownColumn", desc := "(II)V" } : Jvm.MethodName) prog_1_method_31_code (3 : Nat) (Option.none : Option Jvm.ClassFile.FieldType)) ∈ lw_all := lw_g (lw_at lw_m5 109 rfl) rfl
theorem q1154 : (Jvm.Cond.methodLink "QueryHarbor" (281 : Nat) ({ cls := "QueryHarbor", name := "seatAt", desc := "(I)LQueryHarbor$Source;" } : Jvm.MethodName)) ∈ lw_all := lw_g (lw_at lw_m5 110 rfl) rfl
theorem q1155 : (Jvm.Cond.privateMethod ({ cls := "QueryHarbor", name := "seatAt", desc := "(I)LQueryHarbor$Source;" } : Jvm.MethodName)) ∈ lw_tbl := lw_at lw_m5 111 rfl
theorem q1156 : (Jvm.Cond.instanceMethod ({ cls := "QueryHarbor", name := "seatAt", desc := "(I)LQueryHarbor$Source;" } : Jvm.MethodName)) ∈ lw_all := lw_g (lw_at lw_m5 112 rfl) rfl
theorem q1157 : (Jvm.Cond.code ({ cls := "QueryHarbor", name := "seatAt", desc := "(I)LQueryHarbor$Source;" } : Jvm.MethodName) prog_1_method_30_code (2 : Nat) (Option.some (Jvm.ClassFile.FieldType.object "QueryHarbor$Source"))) ∈ lw_all := lw_g (lw_at lw_m5 113 rfl) rfl
theorem q1158 : (Jvm.Cond.classLink "QueryHarbor" (160 : Nat) "java/lang/Integer") ∈ lw_all := lw_g (lw_at lw_m5 114 rfl) rfl
theorem q1159 : (Jvm.Cond.methodLink "QueryHarbor" (278 : Nat) ({ cls := "java/lang/Integer", name := "intValue", desc := "()I" } : Jvm.MethodName)) ∈ lw_all := lw_g (lw_at lw_m5 115 rfl) rfl
theorem q1163 : (Jvm.Cond.classLink "QueryHarbor" (288 : Nat) "QueryHarbor$Link") ∈ lw_all := lw_g (lw_at lw_m5 119 rfl) rfl
theorem q1165 : (Jvm.Cond.methodLink "QueryHarbor" (290 : Nat) ({ cls := "QueryHarbor$Link", name := "<init>", desc := "(IIII)V" } : Jvm.MethodName)) ∈ lw_all := lw_g (lw_at lw_m5 121 rfl) rfl
theorem q1170 : (Jvm.Cond.fieldLink "QueryHarbor" (416 : Nat) "QueryHarbor$Link" "seat" "I") ∈ lw_all := lw_g (lw_at lw_m5 126 rfl) rfl
theorem q1173 : (Jvm.Cond.fieldLink "QueryHarbor" (419 : Nat) "QueryHarbor$Link" "other" "I") ∈ lw_all := lw_g (lw_at lw_m5 129 rfl) rfl
theorem q1188 : (Jvm.Cond.instanceMethod ({ cls := "QueryHarbor", name := "where", desc := "(IIII)I" } : Jvm.MethodName)) ∈ lw_all := lw_g (lw_at lw_m5 144 rfl) rfl
theorem q1189 : (Jvm.Cond.selects "QueryHarbor" ({ cls := "QueryHarbor", name := "where", desc := "(IIII)I" } : Jvm.MethodName) ({ cls := "QueryHarbor", name := "where", desc := "(IIII)I" } : Jvm.MethodName)) ∈ lw_all := lw_g (lw_at lw_m5 145 rfl) rfl
theorem q1190 : (Jvm.Cond.code ({ cls := "QueryHarbor", name := "where", desc := "(IIII)I" } : Jvm.MethodName) prog_1_method_34_code (5 : Nat) (Option.some Jvm.ClassFile.FieldType.int)) ∈ lw_all := lw_g (lw_at lw_m5 146 rfl) rfl
theorem q1191 : (Jvm.Cond.methodLink "QueryHarbor" (293 : Nat) ({ cls := "QueryHarbor", name := "isNumber", desc := "(I)Z" } : Jvm.MethodName)) ∈ lw_all := lw_g (lw_at lw_m5 147 rfl) rfl
theorem q1192 : (Jvm.Cond.classLink "QueryHarbor" (13 : Nat) "QueryHarbor$Condition") ∈ lw_all := lw_g (lw_at lw_m5 148 rfl) rfl
theorem q1194 : (Jvm.Cond.methodLink "QueryHarbor" (297 : Nat) ({ cls := "QueryHarbor$Condition", name := "<init>", desc := "(IIII)V" } : Jvm.MethodName)) ∈ lw_all := lw_g (lw_at lw_m5 150 rfl) rfl
theorem q1218 : (Jvm.Cond.instanceMethod ({ cls := "QueryHarbor", name := "out", desc := "(II)I" } : Jvm.MethodName)) ∈ lw_all := lw_g (lw_at lw_m5 174 rfl) rfl
theorem q1219 : (Jvm.Cond.selects "QueryHarbor" ({ cls := "QueryHarbor", name := "out", desc := "(II)I" } : Jvm.MethodName) ({ cls := "QueryHarbor", name := "out", desc := "(II)I" } : Jvm.MethodName)) ∈ lw_all := lw_g (lw_at lw_m5 175 rfl) rfl
theorem q1220 : (Jvm.Cond.code ({ cls := "QueryHarbor", name := "out", desc := "(II)I" } : Jvm.MethodName) prog_1_method_35_code (3 : Nat) (Option.some Jvm.ClassFile.FieldType.int)) ∈ lw_all := lw_g (lw_at lw_m5 176 rfl) rfl
theorem q1221 : (Jvm.Cond.classLink "QueryHarbor" (298 : Nat) "QueryHarbor$Output") ∈ lw_all := lw_g (lw_at lw_m5 177 rfl) rfl
theorem q1223 : (Jvm.Cond.methodLink "QueryHarbor" (300 : Nat) ({ cls := "QueryHarbor$Output", name := "<init>", desc := "(II)V" } : Jvm.MethodName)) ∈ lw_all := lw_g (lw_at lw_m5 179 rfl) rfl
theorem q1228 : (Jvm.Cond.fieldLink "QueryHarbor" (470 : Nat) "QueryHarbor$Output" "seat" "I") ∈ lw_all := lw_g (lw_at lw_m5 184 rfl) rfl
theorem q1230 : (Jvm.Cond.fieldLink "QueryHarbor" (471 : Nat) "QueryHarbor$Output" "column" "I") ∈ lw_all := lw_g (lw_at lw_m5 186 rfl) rfl
theorem q1240 : (Jvm.Cond.instanceMethod ({ cls := "QueryHarbor", name := "shape", desc := "(IZ)V" } : Jvm.MethodName)) ∈ lw_all := lw_g (lw_at lw_m5 196 rfl) rfl
theorem q1241 : (Jvm.Cond.selects "QueryHarbor" ({ cls := "QueryHarbor", name := "shape", desc := "(IZ)V" } : Jvm.MethodName) ({ cls := "QueryHarbor", name := "shape", desc := "(IZ)V" } : Jvm.MethodName)) ∈ lw_all := lw_g (lw_at lw_m5 197 rfl) rfl
theorem q1242 : (Jvm.Cond.code ({ cls := "QueryHarbor", name := "shape", desc := "(IZ)V" } : Jvm.MethodName) prog_1_method_36_code (3 : Nat) (Option.none : Option Jvm.ClassFile.FieldType)) ∈ lw_all := lw_g (lw_at lw_m5 198 rfl) rfl
theorem q1247 : (Jvm.Cond.instanceMethod ({ cls := "QueryHarbor", name := "ask", desc := "(II)I" } : Jvm.MethodName)) ∈ lw_all := lw_g (lw_at lw_m5 203 rfl) rfl
theorem q1248 : (Jvm.Cond.selects "QueryHarbor" ({ cls := "QueryHarbor", name := "ask", desc := "(II)I" } : Jvm.MethodName) ({ cls := "QueryHarbor", name := "ask", desc := "(II)I" } : Jvm.MethodName)) ∈ lw_all := lw_g (lw_at lw_m5 204 rfl) rfl
theorem q1249 : (Jvm.Cond.code ({ cls := "QueryHarbor", name := "ask", desc := "(II)I" } : Jvm.MethodName) prog_1_method_56_code (12 : Nat) (Option.some Jvm.ClassFile.FieldType.int)) ∈ lw_all := lw_g (lw_at lw_m5 205 rfl) rfl
theorem q1250 : (Jvm.Cond.methodLink "QueryHarbor" (377 : Nat) ({ cls := "java/util/ArrayList", name := "isEmpty", desc := "()Z" } : Jvm.MethodName)) ∈ lw_all := lw_g (lw_at lw_m5 206 rfl) rfl
theorem q1254 : (Jvm.Cond.classLink "QueryHarbor" (342 : Nat) "QueryHarbor$Seat") ∈ lw_all := lw_g (lw_at lw_m5 210 rfl) rfl
theorem q1257 : (Jvm.Cond.methodLink "QueryHarbor" (479 : Nat) ({ cls := "QueryHarbor$Seat", name := "<init>", desc := "(LQueryHarbor;I)V" } : Jvm.MethodName)) ∈ lw_all := lw_g (lw_at lw_m5 213 rfl) rfl
theorem q1289 : (Jvm.Cond.fieldLink "QueryHarbor" (394 : Nat) "QueryHarbor$Seat" "number" "I") ∈ lw_all := lw_g (lw_at lw_m6 5 rfl) rfl
theorem q1291 : (Jvm.Cond.fieldLink "QueryHarbor" (341 : Nat) "QueryHarbor$Seat" "source" "LQueryHarbor$Source;") ∈ lw_all := lw_g (lw_at lw_m6 7 rfl) rfl
theorem q1294 : (Jvm.Cond.fieldLink "QueryHarbor" (350 : Nat) "QueryHarbor$Seat" "sent" "Ljava/util/ArrayList;") ∈ lw_all := lw_g (lw_at lw_m6 10 rfl) rfl
theorem q1296 : (Jvm.Cond.fieldLink "QueryHarbor" (360 : Nat) "QueryHarbor$Seat" "rows" "Ljava/util/ArrayList;") ∈ lw_all := lw_g (lw_at lw_m6 12 rfl) rfl
theorem q1297 : (Jvm.Cond.fieldLink "QueryHarbor" (391 : Nat) "QueryHarbor$Seat" "isTaken" "Z") ∈ lw_all := lw_g (lw_at lw_m6 13 rfl) rfl
theorem q1298 : (Jvm.Cond.fieldLink "QueryHarbor" (357 : Nat) "QueryHarbor$Seat" "isOpen" "Z") ∈ lw_all := lw_g (lw_at lw_m6 14 rfl) rfl
theorem q1299 : (Jvm.Cond.fieldLink "QueryHarbor" (412 : Nat) "QueryHarbor$Seat" "how" "I") ∈ lw_all := lw_g (lw_at lw_m6 15 rfl) rfl
theorem q1300 : (Jvm.Cond.fieldLink "QueryHarbor" (367 : Nat) "QueryHarbor$Seat" "rowsMoment" "I") ∈ lw_all := lw_g (lw_at lw_m6 16 rfl) rfl
theorem q1301 : (Jvm.Cond.fieldLink "QueryHarbor" (347 : Nat) "QueryHarbor$Seat" "spent" "I") ∈ lw_all := lw_g (lw_at lw_m6 17 rfl) rfl
theorem q1326 : (Jvm.Cond.methodLink "QueryHarbor" (482 : Nat) ({ cls := "QueryHarbor", name := "next", desc := "([LQueryHarbor$Seat;)LQueryHarbor$Seat;" } : Jvm.MethodName)) ∈ lw_all := lw_g (lw_at lw_m6 42 rfl) rfl
theorem q1327 : (Jvm.Cond.privateMethod ({ cls := "QueryHarbor", name := "next", desc := "([LQueryHarbor$Seat;)LQueryHarbor$Seat;" } : Jvm.MethodName)) ∈ lw_tbl := lw_at lw_m6 43 rfl
theorem q1328 : (Jvm.Cond.instanceMethod ({ cls := "QueryHarbor", name := "next", desc := "([LQueryHarbor$Seat;)LQueryHarbor$Seat;" } : Jvm.MethodName)) ∈ lw_all := lw_g (lw_at lw_m6 44 rfl) rfl
theorem q1329 : (Jvm.Cond.code ({ cls := "QueryHarbor", name := "next", desc := "([LQueryHarbor$Seat;)LQueryHarbor$Seat;" } : Jvm.MethodName) prog_1_method_45_code (10 : Nat) (Option.some (Jvm.ClassFile.FieldType.object "QueryHarbor$Seat"))) ∈ lw_all := lw_g (lw_at lw_m6 45 rfl) rfl
theorem q1330 : (Jvm.Cond.methodLink "QueryHarbor" (398 : Nat) ({ cls := "QueryHarbor", name := "linkOf", desc := "(LQueryHarbor$Seat;[LQueryHarbor$Seat;)LQueryHarbor$Link;" } : Jvm.MethodName)) ∈ lw_all := lw_g (lw_at lw_m6 46 rfl) rfl
theorem q1331 : (Jvm.Cond.privateMethod ({ cls := "QueryHarbor", name := "linkOf", desc := "(LQueryHarbor$Seat;[LQueryHarbor$Seat;)LQueryHarbor$Link;" } : Jvm.MethodName)) ∈ lw_tbl := lw_at lw_m6 47 rfl
theorem q1332 : (Jvm.Cond.instanceMethod ({ cls := "QueryHarbor", name := "linkOf", desc := "(LQueryHarbor$Seat;[LQueryHarbor$Seat;)LQueryHarbor$Link;" } : Jvm.MethodName)) ∈ lw_all := lw_g (lw_at lw_m6 48 rfl) rfl
theorem q1333 : (Jvm.Cond.code ({ cls := "QueryHarbor", name := "linkOf", desc := "(LQueryHarbor$Seat;[LQueryHarbor$Seat;)LQueryHarbor$Link;" } : Jvm.MethodName) prog_1_method_44_code (9 : Nat) (Option.some (Jvm.ClassFile.FieldType.object "QueryHarbor$Link"))) ∈ lw_all := lw_g (lw_at lw_m6 49 rfl) rfl
theorem q1334 : (Jvm.Cond.methodLink "QueryHarbor" (395 : Nat) ({ cls := "QueryHarbor$Link", name := "joins", desc := "(II)Z" } : Jvm.MethodName)) ∈ lw_all := lw_g (lw_at lw_m6 50 rfl) rfl
theorem q1338 : (Jvm.Cond.methodLink "QueryHarbor" (402 : Nat) ({ cls := "QueryHarbor$Seat", name := "guess", desc := "()I" } : Jvm.MethodName)) ∈ lw_all := lw_g (lw_at lw_m6 54 rfl) rfl
theorem q1343 : (Jvm.Cond.methodLink "QueryHarbor" (486 : Nat) ({ cls := "QueryHarbor", name := "take", desc := "(LQueryHarbor$Seat;[LQueryHarbor$Seat;III)V" } : Jvm.MethodName)) ∈ lw_all := lw_g (lw_at lw_m6 59 rfl) rfl
theorem q1344 : (Jvm.Cond.privateMethod ({ cls := "QueryHarbor", name := "take", desc := "(LQueryHarbor$Seat;[LQueryHarbor$Seat;III)V" } : Jvm.MethodName)) ∈ lw_tbl := lw_at lw_m6 60 rfl
theorem q1345 : (Jvm.Cond.instanceMethod ({ cls := "QueryHarbor", name := "take", desc := "(LQueryHarbor$Seat;[LQueryHarbor$Seat;III)V" } : Jvm.MethodName)) ∈ lw_all := lw_g (lw_at lw_m6 61 rfl) rfl
theorem q1346 : (Jvm.Cond.code ({ cls := "QueryHarbor", name := "take", desc := "(LQueryHarbor$Seat;[LQueryHarbor$Seat;III)V" } : Jvm.MethodName) prog_1_method_47_code (8 : Nat) (Option.none : Option Jvm.ClassFile.FieldType)) ∈ lw_all := lw_g (lw_at lw_m6 62 rfl) rfl
theorem q1347 : (Jvm.Cond.methodLink "QueryHarbor" (408 : Nat) ({ cls := "QueryHarbor", name := "entryFor", desc := "(LQueryHarbor$Seat;I)LQueryHarbor$Entry;" } : Jvm.MethodName)) ∈ lw_all := lw_g (lw_at lw_m6 63 rfl) rfl
theorem q1348 : (Jvm.Cond.privateMethod ({ cls := "QueryHarbor", name := "entryFor", desc := "(LQueryHarbor$Seat;I)LQueryHarbor$Entry;" } : Jvm.MethodName)) ∈ lw_tbl := lw_at lw_m6 64 rfl
theorem q1349 : (Jvm.Cond.instanceMethod ({ cls := "QueryHarbor", name := "entryFor", desc := "(LQueryHarbor$Seat;I)LQueryHarbor$Entry;" } : Jvm.MethodName)) ∈ lw_all := lw_g (lw_at lw_m6 65 rfl) rfl
theorem q1350 : (Jvm.Cond.code ({ cls := "QueryHarbor", name := "entryFor", desc := "(LQueryHarbor$Seat;I)LQueryHarbor$Entry;" } : Jvm.MethodName) prog_1_method_42_code (8 : Nat) (Option.some (Jvm.ClassFile.FieldType.object "QueryHarbor$Entry"))) ∈ lw_all := lw_g (lw_at lw_m6 66 rfl) rfl
theorem q1351 : (Jvm.Cond.methodLink "QueryHarbor" (383 : Nat) ({ cls := "QueryHarbor", name := "follows", desc := "(LQueryHarbor$Condition;Ljava/util/ArrayList;)Z" } : Jvm.MethodName)) ∈ lw_all := lw_g (lw_at lw_m6 67 rfl) rfl
theorem q1352 : (Jvm.Cond.static ({ cls := "QueryHarbor", name := "follows", desc := "(LQueryHarbor$Condition;Ljava/util/ArrayList;)Z" } : Jvm.MethodName)) ∈ lw_all := lw_g (lw_at lw_m6 68 rfl) rfl
theorem q1353 : (Jvm.Cond.code ({ cls := "QueryHarbor", name := "follows", desc := "(LQueryHarbor$Condition;Ljava/util/ArrayList;)Z" } : Jvm.MethodName) prog_1_method_43_code (4 : Nat) (Option.some Jvm.ClassFile.FieldType.boolean)) ∈ lw_all := lw_g (lw_at lw_m6 69 rfl) rfl
theorem q1354 : (Jvm.Cond.methodLink "QueryHarbor" (387 : Nat) ({ cls := "QueryHarbor$Condition", name := "followsFrom", desc := "(LQueryHarbor$Condition;)Z" } : Jvm.MethodName)) ∈ lw_all := lw_g (lw_at lw_m6 70 rfl) rfl
theorem q1358 : (Jvm.Cond.methodLink "QueryHarbor" (422 : Nat) ({ cls := "QueryHarbor", name := "bind", desc := "(LQueryHarbor$Seat;LQueryHarbor$Seat;LQueryHarbor$Link;II)Z" } : Jvm.MethodName)) ∈ lw_all := lw_g (lw_at lw_m6 74 rfl) rfl
theorem q1359 : (Jvm.Cond.privateMethod ({ cls := "QueryHarbor", name := "bind", desc := "(LQueryHarbor$Seat;LQueryHarbor$Seat;LQueryHarbor$Link;II)Z" } : Jvm.MethodName)) ∈ lw_tbl := lw_at lw_m6 75 rfl
theorem q1360 : (Jvm.Cond.instanceMethod ({ cls := "QueryHarbor", name := "bind", desc := "(LQueryHarbor$Seat;LQueryHarbor$Seat;LQueryHarbor$Link;II)Z" } : Jvm.MethodName)) ∈ lw_all := lw_g (lw_at lw_m6 76 rfl) rfl
theorem q1361 : (Jvm.Cond.codeWith ({ cls := "QueryHarbor", name := "bind", desc := "(LQueryHarbor$Seat;LQueryHarbor$Seat;LQueryHarbor$Link;II)Z" } : Jvm.MethodName) prog_1_method_48_code (12 : Nat) (Option.some Jvm.ClassFile.FieldType.boolean) [((142 : Nat), (207 : Nat), (217 : Nat), (314 : Nat)), ((208 : Nat), (214 : Nat), (217 : Nat), (314 : Nat))]) ∈ lw_all := lw_g (lw_at lw_m6 77 rfl) rfl
theorem q1362 : (Jvm.Cond.classLink "QueryHarbor" (314 : Nat) "QueryHarbor$NoAnswer") ∈ lw_all := lw_g (lw_at lw_m6 78 rfl) rfl
theorem q1363 : (Jvm.Cond.methodLink "QueryHarbor" (433 : Nat) ({ cls := "QueryHarbor$Link", name := "columnOf", desc := "(I)I" } : Jvm.MethodName)) ∈ lw_all := lw_g (lw_at lw_m6 79 rfl) rfl
theorem q1367 : (Jvm.Cond.interfaceEntry "QueryHarbor" (436 : Nat)) ∈ lw_tbl := lw_at lw_m6 83 rfl
theorem q1368 : (Jvm.Cond.methodLink "QueryHarbor" (436 : Nat) ({ cls := "QueryHarbor$Store", name := "can", desc := "(II)Z" } : Jvm.MethodName)) ∈ lw_all := lw_g (lw_at lw_m6 84 rfl) rfl
theorem q1369 : (Jvm.Cond.methodLink "QueryHarbor" (439 : Nat) ({ cls := "QueryHarbor", name := "keysOf", desc := "(Ljava/util/ArrayList;I)Ljava/util/ArrayList;" } : Jvm.MethodName)) ∈ lw_all := lw_g (lw_at lw_m6 85 rfl) rfl
theorem q1370 : (Jvm.Cond.static ({ cls := "QueryHarbor", name := "keysOf", desc := "(Ljava/util/ArrayList;I)Ljava/util/ArrayList;" } : Jvm.MethodName)) ∈ lw_all := lw_g (lw_at lw_m6 86 rfl) rfl
theorem q1371 : (Jvm.Cond.code ({ cls := "QueryHarbor", name := "keysOf", desc := "(Ljava/util/ArrayList;I)Ljava/util/ArrayList;" } : Jvm.MethodName) prog_1_method_46_code (6 : Nat) (Option.some (Jvm.ClassFile.FieldType.object "java/util/ArrayList"))) ∈ lw_all := lw_g (lw_at lw_m6 87 rfl) rfl
theorem q1372 : (Jvm.Cond.methodLink "QueryHarbor" (405 : Nat) ({ cls := "java/util/ArrayList", name := "add", desc := "(ILjava/lang/Object;)V" } : Jvm.MethodName)) ∈ lw_all := lw_g (lw_at lw_m6 88 rfl) rfl
theorem q1373 : (Jvm.Cond.methodLink "QueryHarbor" (443 : Nat) ({ cls := "QueryHarbor$Seat", name := "scanCost", desc := "()I" } : Jvm.MethodName)) ∈ lw_all := lw_g (lw_at lw_m6 89 rfl) rfl
theorem q1411 : (Jvm.Cond.interfaceEntry "QueryHarbor" (327 : Nat)) ∈ lw_tbl := lw_at lw_m6 127 rfl
theorem q1412 : (Jvm.Cond.methodLink "QueryHarbor" (327 : Nat) ({ cls := "QueryHarbor$Store", name := "fee", desc := "()I" } : Jvm.MethodName)) ∈ lw_all := lw_g (lw_at lw_m6 128 rfl) rfl
theorem q1413 : (Jvm.Cond.interfaceEntry "QueryHarbor" (364 : Nat)) ∈ lw_tbl := lw_at lw_m6 129 rfl
theorem q1414 : (Jvm.Cond.methodLink "QueryHarbor" (364 : Nat) ({ cls := "QueryHarbor$Store", name := "freight", desc := "()I" } : Jvm.MethodName)) ∈ lw_all := lw_g (lw_at lw_m6 130 rfl) rfl
theorem q1415 : (Jvm.Cond.methodLink "QueryHarbor" (446 : Nat) ({ cls := "java/lang/Math", name := "min", desc := "(II)I" } : Jvm.MethodName)) ∈ lw_all := lw_g (lw_at lw_m6 131 rfl) rfl
theorem q1416 : (Jvm.Cond.methodLink "QueryHarbor" (370 : Nat) ({ cls := "QueryHarbor", name := "ship", desc := "(LQueryHarbor$Seat;ILjava/util/ArrayList;IIII)V" } : Jvm.MethodName)) ∈ lw_all := lw_g (lw_at lw_m6 132 rfl) rfl
theorem q1417 : (Jvm.Cond.privateMethod ({ cls := "QueryHarbor", name := "ship", desc := "(LQueryHarbor$Seat;ILjava/util/ArrayList;IIII)V" } : Jvm.MethodName)) ∈ lw_tbl := lw_at lw_m6 133 rfl
theorem q1418 : (Jvm.Cond.instanceMethod ({ cls := "QueryHarbor", name := "ship", desc := "(LQueryHarbor$Seat;ILjava/util/ArrayList;IIII)V" } : Jvm.MethodName)) ∈ lw_all := lw_g (lw_at lw_m6 134 rfl) rfl
theorem q1419 : (Jvm.Cond.codeWith ({ cls := "QueryHarbor", name := "ship", desc := "(LQueryHarbor$Seat;ILjava/util/ArrayList;IIII)V" } : Jvm.MethodName) prog_1_method_40_code (15 : Nat) (Option.none : Option Jvm.ClassFile.FieldType) [((18 : Nat), (32 : Nat), (54 : Nat), (0 : Nat)), ((54 : Nat), (56 : Nat), (54 : Nat), (0 : Nat))]) ∈ lw_all := lw_g (lw_at lw_m6 135 rfl) rfl
theorem q1420 : (Jvm.Cond.methodLink "QueryHarbor" (344 : Nat) ({ cls := "QueryHarbor", name := "request", desc := "(LQueryHarbor$Line;IILQueryHarbor$Answer;)V" } : Jvm.MethodName)) ∈ lw_all := lw_g (lw_at lw_m6 136 rfl) rfl
theorem q1421 : (Jvm.Cond.privateMethod ({ cls := "QueryHarbor", name := "request", desc := "(LQueryHarbor$Line;IILQueryHarbor$Answer;)V" } : Jvm.MethodName)) ∈ lw_tbl := lw_at lw_m6 137 rfl
theorem q1422 : (Jvm.Cond.instanceMethod ({ cls := "QueryHarbor", name := "request", desc := "(LQueryHarbor$Line;IILQueryHarbor$Answer;)V" } : Jvm.MethodName)) ∈ lw_all := lw_g (lw_at lw_m6 138 rfl) rfl
theorem q1423 : (Jvm.Cond.codeWith ({ cls := "QueryHarbor", name := "request", desc := "(LQueryHarbor$Line;IILQueryHarbor$Answer;)V" } : Jvm.MethodName) prog_1_method_39_code (8 : Nat) (Option.none : Option Jvm.ClassFile.FieldType) [((12 : Nat), (21 : Nat), (22 : Nat), (330 : Nat))]) ∈ lw_all := lw_g (lw_at lw_m6 139 rfl) rfl
theorem q1424 : (Jvm.Cond.classLink "QueryHarbor" (330 : Nat) "QueryHarbor$Failed") ∈ lw_all := lw_g (lw_at lw_m6 140 rfl) rfl
theorem q1425 : (Jvm.Cond.methodLink "QueryHarbor" (335 : Nat) ({ cls := "QueryHarbor", name := "attempt", desc := "(LQueryHarbor$Line;IILQueryHarbor$Answer;)V" } : Jvm.MethodName)) ∈ lw_all := lw_g (lw_at lw_m6 141 rfl) rfl
theorem q1426 : (Jvm.Cond.privateMethod ({ cls := "QueryHarbor", name := "attempt", desc := "(LQueryHarbor$Line;IILQueryHarbor$Answer;)V" } : Jvm.MethodName)) ∈ lw_tbl := lw_at lw_m6 142 rfl
theorem q1427 : (Jvm.Cond.instanceMethod ({ cls := "QueryHarbor", name := "attempt", desc := "(LQueryHarbor$Line;IILQueryHarbor$Answer;)V" } : Jvm.MethodName)) ∈ lw_all := lw_g (lw_at lw_m6 143 rfl) rfl
theorem q1428 : (Jvm.Cond.code ({ cls := "QueryHarbor", name := "attempt", desc := "(LQueryHarbor$Line;IILQueryHarbor$Answer;)V" } : Jvm.MethodName) prog_1_method_38_code (6 : Nat) (Option.none : Option Jvm.ClassFile.FieldType)) ∈ lw_all := lw_g (lw_at lw_m6 144 rfl) rfl
theorem q1437 : (Jvm.Cond.stringRef "QueryHarbor" (316 : Nat) "deadline") ∈ lw_tbl := lw_at lw_m6 153 rfl
theorem q1438 : (Jvm.Cond.methodLink "QueryHarbor" (318 : Nat) ({ cls := "QueryHarbor$NoAnswer", name := "<init>", desc := "(Ljava/lang/String;Ljava/lang/Exception;)V" } : Jvm.MethodName)) ∈ lw_all := lw_g (lw_at lw_m6 154 rfl) rfl
theorem q1457 : (Jvm.Cond.stringRef "QueryHarbor" (332 : Nat) "failed") ∈ lw_tbl := lw_at lw_m6 173 rfl
theorem q1458 : (Jvm.Cond.methodLink "QueryHarbor" (334 : Nat) ({ cls := "QueryHarbor$Failed", name := "<init>", desc := "(Ljava/lang/String;)V" } : Jvm.MethodName)) ∈ lw_all := lw_g (lw_at lw_m6 174 rfl) rfl
theorem q1464 : (Jvm.Cond.stringRef "QueryHarbor" (339 : Nat) "no answer") ∈ lw_tbl := lw_at lw_m6 180 rfl
theorem q1465 : (Jvm.Cond.methodLink "QueryHarbor" (353 : Nat) ({ cls := "QueryHarbor", name := "holdAll", desc := "(Ljava/util/ArrayList;LQueryHarbor$Row;)Z" } : Jvm.MethodName)) ∈ lw_all := lw_g (lw_at lw_m6 181 rfl) rfl
theorem q1466 : (Jvm.Cond.static ({ cls := "QueryHarbor", name := "holdAll", desc := "(Ljava/util/ArrayList;LQueryHarbor$Row;)Z" } : Jvm.MethodName)) ∈ lw_all := lw_g (lw_at lw_m6 182 rfl) rfl
theorem q1467 : (Jvm.Cond.code ({ cls := "QueryHarbor", name := "holdAll", desc := "(Ljava/util/ArrayList;LQueryHarbor$Row;)Z" } : Jvm.MethodName) prog_1_method_3_code (4 : Nat) (Option.some Jvm.ClassFile.FieldType.boolean)) ∈ lw_all := lw_g (lw_at lw_m6 183 rfl) rfl
theorem q1468 : (Jvm.Cond.methodLink "QueryHarbor" (15 : Nat) ({ cls := "QueryHarbor$Condition", name := "holdsFor", desc := "(LQueryHarbor$Row;)Z" } : Jvm.MethodName)) ∈ lw_all := lw_g (lw_at lw_m6 184 rfl) rfl
theorem q1473 : (Jvm.Cond.methodLink "QueryHarbor" (451 : Nat) ({ cls := "QueryHarbor", name := "order", desc := "(Ljava/util/ArrayList;)V" } : Jvm.MethodName)) ∈ lw_all := lw_g (lw_at lw_m6 189 rfl) rfl
theorem q1474 : (Jvm.Cond.static ({ cls := "QueryHarbor", name := "order", desc := "(Ljava/util/ArrayList;)V" } : Jvm.MethodName)) ∈ lw_all := lw_g (lw_at lw_m6 190 rfl) rfl
theorem q1475 : (Jvm.Cond.code ({ cls := "QueryHarbor", name := "order", desc := "(Ljava/util/ArrayList;)V" } : Jvm.MethodName) prog_1_method_49_code (4 : Nat) (Option.none : Option Jvm.ClassFile.FieldType)) ∈ lw_all := lw_g (lw_at lw_m6 191 rfl) rfl
theorem q1476 : (Jvm.Cond.methodLink "QueryHarbor" (426 : Nat) ({ cls := "QueryHarbor", name := "scan", desc := "(LQueryHarbor$Seat;II)V" } : Jvm.MethodName)) ∈ lw_all := lw_g (lw_at lw_m6 192 rfl) rfl
theorem q1477 : (Jvm.Cond.privateMethod ({ cls := "QueryHarbor", name := "scan", desc := "(LQueryHarbor$Seat;II)V" } : Jvm.MethodName)) ∈ lw_tbl := lw_at lw_m6 193 rfl
theorem q1478 : (Jvm.Cond.instanceMethod ({ cls := "QueryHarbor", name := "scan", desc := "(LQueryHarbor$Seat;II)V" } : Jvm.MethodName)) ∈ lw_all := lw_g (lw_at lw_m6 194 rfl) rfl
theorem q1479 : (Jvm.Cond.codeWith ({ cls := "QueryHarbor", name := "scan", desc := "(LQueryHarbor$Seat;II)V" } : Jvm.MethodName) prog_1_method_41_code (5 : Nat) (Option.none : Option Jvm.ClassFile.FieldType) [((16 : Nat), (124 : Nat), (127 : Nat), (314 : Nat))]) ∈ lw_all := lw_g (lw_at lw_m6 195 rfl) rfl
theorem q1481 : (Jvm.Cond.methodLink "QueryHarbor" (374 : Nat) ({ cls := "QueryHarbor$Entry", name := "<init>", desc := "(LQueryHarbor$Source;Ljava/util/ArrayList;Ljava/util/ArrayList;II)V" } : Jvm.MethodName)) ∈ lw_all := lw_g (lw_at lw_m6 197 rfl) rfl
theorem q1486 : (Jvm.Cond.fieldLink "QueryHarbor" (136 : Nat) "QueryHarbor$Entry" "source" "LQueryHarbor$Source;") ∈ lw_all := lw_g (lw_at lw_m6 202 rfl) rfl
theorem q1488 : (Jvm.Cond.fieldLink "QueryHarbor" (382 : Nat) "QueryHarbor$Entry" "conditions" "Ljava/util/ArrayList;") ∈ lw_all := lw_g (lw_at lw_m6 204 rfl) rfl
theorem q1490 : (Jvm.Cond.fieldLink "QueryHarbor" (415 : Nat) "QueryHarbor$Entry" "rows" "Ljava/util/ArrayList;") ∈ lw_all := lw_g (lw_at lw_m6 206 rfl) rfl
theorem q1492 : (Jvm.Cond.fieldLink "QueryHarbor" (133 : Nat) "QueryHarbor$Entry" "tick" "I") ∈ lw_all := lw_g (lw_at lw_m6 208 rfl) rfl
theorem q1494 : (Jvm.Cond.fieldLink "QueryHarbor" (151 : Nat) "QueryHarbor$Entry" "moment" "I") ∈ lw_all := lw_g (lw_at lw_m6 210 rfl) rfl
theorem q1506 : (Jvm.Cond.methodLink "QueryHarbor" (430 : Nat) ({ cls := "QueryHarbor$Seat", name := "filter", desc := "()V" } : Jvm.MethodName)) ∈ lw_all := lw_g (lw_at lw_m6 222 rfl) rfl
theorem q1512 : (Jvm.Cond.methodLink "QueryHarbor" (496 : Nat) ({ cls := "QueryHarbor$Source", name := "since", desc := "(I)I" } : Jvm.MethodName)) ∈ lw_all := lw_g (lw_at lw_m6 228 rfl) rfl
theorem q1518 : (Jvm.Cond.methodLink "QueryHarbor" (499 : Nat) ({ cls := "java/lang/Math", name := "max", desc := "(II)I" } : Jvm.MethodName)) ∈ lw_all := lw_g (lw_at lw_m6 234 rfl) rfl
theorem q1519 : (Jvm.Cond.methodLink "QueryHarbor" (502 : Nat) ({ cls := "QueryHarbor$Source", name := "until", desc := "(II)I" } : Jvm.MethodName)) ∈ lw_all := lw_g (lw_at lw_m6 235 rfl) rfl
theorem q1523 : (Jvm.Cond.methodLink "QueryHarbor" (508 : Nat) ({ cls := "QueryHarbor", name := "walk", desc := "(Ljava/util/ArrayList;LQueryHarbor$Answer;)V" } : Jvm.MethodName)) ∈ lw_all := lw_g (lw_at lw_m6 239 rfl) rfl
theorem q1524 : (Jvm.Cond.privateMethod ({ cls := "QueryHarbor", name := "walk", desc := "(Ljava/util/ArrayList;LQueryHarbor$Answer;)V" } : Jvm.MethodName)) ∈ lw_tbl := lw_at lw_m7 0 rfl
theorem q1525 : (Jvm.Cond.instanceMethod ({ cls := "QueryHarbor", name := "walk", desc := "(Ljava/util/ArrayList;LQueryHarbor$Answer;)V" } : Jvm.MethodName)) ∈ lw_all := lw_g (lw_at lw_m7 1 rfl) rfl
theorem q1526 : (Jvm.Cond.code ({ cls := "QueryHarbor", name := "walk", desc := "(Ljava/util/ArrayList;LQueryHarbor$Answer;)V" } : Jvm.MethodName) prog_1_method_50_code (4 : Nat) (Option.none : Option Jvm.ClassFile.FieldType)) ∈ lw_all := lw_g (lw_at lw_m7 2 rfl) rfl
theorem q1528 : (Jvm.Cond.methodLink "QueryHarbor" (455 : Nat) ({ cls := "QueryHarbor", name := "step", desc := "(Ljava/util/ArrayList;[LQueryHarbor$Row;ILQueryHarbor$Answer;)V" } : Jvm.MethodName)) ∈ lw_all := lw_g (lw_at lw_m7 4 rfl) rfl
theorem q1529 : (Jvm.Cond.privateMethod ({ cls := "QueryHarbor", name := "step", desc := "(Ljava/util/ArrayList;[LQueryHarbor$Row;ILQueryHarbor$Answer;)V" } : Jvm.MethodName)) ∈ lw_tbl := lw_at lw_m7 5 rfl
theorem q1530 : (Jvm.Cond.instanceMethod ({ cls := "QueryHarbor", name := "step", desc := "(Ljava/util/ArrayList;[LQueryHarbor$Row;ILQueryHarbor$Answer;)V" } : Jvm.MethodName)) ∈ lw_all := lw_g (lw_at lw_m7 6 rfl) rfl
theorem q1531 : (Jvm.Cond.code ({ cls := "QueryHarbor", name := "step", desc := "(Ljava/util/ArrayList;[LQueryHarbor$Row;ILQueryHarbor$Answer;)V" } : Jvm.MethodName) prog_1_method_51_code (6 : Nat) (Option.none : Option Jvm.ClassFile.FieldType)) ∈ lw_all := lw_g (lw_at lw_m7 7 rfl) rfl
theorem q1532 : (Jvm.Cond.methodLink "QueryHarbor" (459 : Nat) ({ cls := "QueryHarbor", name := "tell", desc := "([LQueryHarbor$Row;LQueryHarbor$Answer;)V" } : Jvm.MethodName)) ∈ lw_all := lw_g (lw_at lw_m7 8 rfl) rfl
theorem q1533 : (Jvm.Cond.privateMethod ({ cls := "QueryHarbor", name := "tell", desc := "([LQueryHarbor$Row;LQueryHarbor$Answer;)V" } : Jvm.MethodName)) ∈ lw_tbl := lw_at lw_m7 9 rfl
theorem q1534 : (Jvm.Cond.instanceMethod ({ cls := "QueryHarbor", name := "tell", desc := "([LQueryHarbor$Row;LQueryHarbor$Answer;)V" } : Jvm.MethodName)) ∈ lw_all := lw_g (lw_at lw_m7 10 rfl) rfl
theorem q1535 : (Jvm.Cond.code ({ cls := "QueryHarbor", name := "tell", desc := "([LQueryHarbor$Row;LQueryHarbor$Answer;)V" } : Jvm.MethodName) prog_1_method_53_code (7 : Nat) (Option.none : Option Jvm.ClassFile.FieldType)) ∈ lw_all := lw_g (lw_at lw_m7 11 rfl) rfl
theorem q1536 : (Jvm.Cond.classLink "QueryHarbor" (475 : Nat) "[I") ∈ lw_all := lw_g (lw_at lw_m7 12 rfl) rfl
theorem q1537 : (Jvm.Cond.methodLink "QueryHarbor" (476 : Nat) ({ cls := "QueryHarbor", name := "rank", desc := "(I)I" } : Jvm.MethodName)) ∈ lw_all := lw_g (lw_at lw_m7 13 rfl) rfl
theorem q1538 : (Jvm.Cond.static ({ cls := "QueryHarbor", name := "rank", desc := "(I)I" } : Jvm.MethodName)) ∈ lw_all := lw_g (lw_at lw_m7 14 rfl) rfl
theorem q1539 : (Jvm.Cond.code ({ cls := "QueryHarbor", name := "rank", desc := "(I)I" } : Jvm.MethodName) prog_1_method_54_code (1 : Nat) (Option.some Jvm.ClassFile.FieldType.int)) ∈ lw_all := lw_g (lw_at lw_m7 15 rfl) rfl
theorem q1540 : (Jvm.Cond.methodLink "QueryHarbor" (463 : Nat) ({ cls := "QueryHarbor", name := "areLinked", desc := "([LQueryHarbor$Row;I)Z" } : Jvm.MethodName)) ∈ lw_all := lw_g (lw_at lw_m7 16 rfl) rfl
theorem q1541 : (Jvm.Cond.privateMethod ({ cls := "QueryHarbor", name := "areLinked", desc := "([LQueryHarbor$Row;I)Z" } : Jvm.MethodName)) ∈ lw_tbl := lw_at lw_m7 17 rfl
theorem q1542 : (Jvm.Cond.instanceMethod ({ cls := "QueryHarbor", name := "areLinked", desc := "([LQueryHarbor$Row;I)Z" } : Jvm.MethodName)) ∈ lw_all := lw_g (lw_at lw_m7 18 rfl) rfl
theorem q1543 : (Jvm.Cond.code ({ cls := "QueryHarbor", name := "areLinked", desc := "([LQueryHarbor$Row;I)Z" } : Jvm.MethodName) prog_1_method_52_code (6 : Nat) (Option.some Jvm.ClassFile.FieldType.boolean)) ∈ lw_all := lw_g (lw_at lw_m7 19 rfl) rfl
theorem q1544 : (Jvm.Cond.methodLink "QueryHarbor" (467 : Nat) ({ cls := "QueryHarbor$Link", name := "holdsFor", desc := "(LQueryHarbor$Row;LQueryHarbor$Row;)Z" } : Jvm.MethodName)) ∈ lw_all := lw_g (lw_at lw_m7 20 rfl) rfl
theorem q1549 : (Jvm.Cond.methodLink "QueryHarbor" (512 : Nat) ({ cls := "QueryHarbor", name := "cut", desc := "(LQueryHarbor$Answer;)V" } : Jvm.MethodName)) ∈ lw_all := lw_g (lw_at lw_m7 25 rfl) rfl
theorem q1550 : (Jvm.Cond.privateMethod ({ cls := "QueryHarbor", name := "cut", desc := "(LQueryHarbor$Answer;)V" } : Jvm.MethodName)) ∈ lw_tbl := lw_at lw_m7 26 rfl
theorem q1551 : (Jvm.Cond.instanceMethod ({ cls := "QueryHarbor", name := "cut", desc := "(LQueryHarbor$Answer;)V" } : Jvm.MethodName)) ∈ lw_all := lw_g (lw_at lw_m7 27 rfl) rfl
theorem q1552 : (Jvm.Cond.code ({ cls := "QueryHarbor", name := "cut", desc := "(LQueryHarbor$Answer;)V" } : Jvm.MethodName) prog_1_method_55_code (2 : Nat) (Option.none : Option Jvm.ClassFile.FieldType)) ∈ lw_all := lw_g (lw_at lw_m7 28 rfl) rfl
theorem q1557 : (Jvm.Cond.instanceMethod ({ cls := "QueryHarbor", name := "answer", desc := "(II)I" } : Jvm.MethodName)) ∈ lw_all := lw_g (lw_at lw_m7 33 rfl) rfl
theorem q1558 : (Jvm.Cond.selects "QueryHarbor" ({ cls := "QueryHarbor", name := "answer", desc := "(II)I" } : Jvm.MethodName) ({ cls := "QueryHarbor", name := "answer", desc := "(II)I" } : Jvm.MethodName)) ∈ lw_all := lw_g (lw_at lw_m7 34 rfl) rfl
theorem q1559 : (Jvm.Cond.code ({ cls := "QueryHarbor", name := "answer", desc := "(II)I" } : Jvm.MethodName) prog_1_method_59_code (3 : Nat) (Option.some Jvm.ClassFile.FieldType.int)) ∈ lw_all := lw_g (lw_at lw_m7 35 rfl) rfl
theorem q1560 : (Jvm.Cond.methodLink "QueryHarbor" (516 : Nat) ({ cls := "QueryHarbor", name := "cellOf", desc := "(LQueryHarbor$Answer;II)I" } : Jvm.MethodName)) ∈ lw_all := lw_g (lw_at lw_m7 36 rfl) rfl
theorem q1561 : (Jvm.Cond.privateMethod ({ cls := "QueryHarbor", name := "cellOf", desc := "(LQueryHarbor$Answer;II)I" } : Jvm.MethodName)) ∈ lw_tbl := lw_at lw_m7 37 rfl
theorem q1562 : (Jvm.Cond.instanceMethod ({ cls := "QueryHarbor", name := "cellOf", desc := "(LQueryHarbor$Answer;II)I" } : Jvm.MethodName)) ∈ lw_all := lw_g (lw_at lw_m7 38 rfl) rfl
theorem q1563 : (Jvm.Cond.code ({ cls := "QueryHarbor", name := "cellOf", desc := "(LQueryHarbor$Answer;II)I" } : Jvm.MethodName) prog_1_method_58_code (4 : Nat) (Option.some Jvm.ClassFile.FieldType.int)) ∈ lw_all := lw_g (lw_at lw_m7 39 rfl) rfl
theorem q1568 : (Jvm.Cond.instanceMethod ({ cls := "QueryHarbor", name := "taken", desc := "(I)I" } : Jvm.MethodName)) ∈ lw_all := lw_g (lw_at lw_m7 44 rfl) rfl
theorem q1569 : (Jvm.Cond.selects "QueryHarbor" ({ cls := "QueryHarbor", name := "taken", desc := "(I)I" } : Jvm.MethodName) ({ cls := "QueryHarbor", name := "taken", desc := "(I)I" } : Jvm.MethodName)) ∈ lw_all := lw_g (lw_at lw_m7 45 rfl) rfl
theorem q1570 : (Jvm.Cond.code ({ cls := "QueryHarbor", name := "taken", desc := "(I)I" } : Jvm.MethodName) prog_1_method_65_code (2 : Nat) (Option.some Jvm.ClassFile.FieldType.int)) ∈ lw_all := lw_g (lw_at lw_m7 46 rfl) rfl
theorem q1575 : (Jvm.Cond.instanceMethod ({ cls := "QueryHarbor", name := "size", desc := "(I)I" } : Jvm.MethodName)) ∈ lw_all := lw_g (lw_at lw_m7 51 rfl) rfl
theorem q1576 : (Jvm.Cond.selects "QueryHarbor" ({ cls := "QueryHarbor", name := "size", desc := "(I)I" } : Jvm.MethodName) ({ cls := "QueryHarbor", name := "size", desc := "(I)I" } : Jvm.MethodName)) ∈ lw_all := lw_g (lw_at lw_m7 52 rfl) rfl
theorem q1577 : (Jvm.Cond.code ({ cls := "QueryHarbor", name := "size", desc := "(I)I" } : Jvm.MethodName) prog_1_method_66_code (2 : Nat) (Option.some Jvm.ClassFile.FieldType.int)) ∈ lw_all := lw_g (lw_at lw_m7 53 rfl) rfl
theorem q1582 : (Jvm.Cond.instanceMethod ({ cls := "QueryHarbor", name := "answersAnew", desc := "()I" } : Jvm.MethodName)) ∈ lw_all := lw_g (lw_at lw_m7 58 rfl) rfl
theorem q1583 : (Jvm.Cond.selects "QueryHarbor" ({ cls := "QueryHarbor", name := "answersAnew", desc := "()I" } : Jvm.MethodName) ({ cls := "QueryHarbor", name := "answersAnew", desc := "()I" } : Jvm.MethodName)) ∈ lw_all := lw_g (lw_at lw_m7 59 rfl) rfl
theorem q1584 : (Jvm.Cond.code ({ cls := "QueryHarbor", name := "answersAnew", desc := "()I" } : Jvm.MethodName) prog_1_method_69_code (1 : Nat) (Option.some Jvm.ClassFile.FieldType.int)) ∈ lw_all := lw_g (lw_at lw_m7 60 rfl) rfl
theorem q1585 : (Jvm.Cond.methodLink "QueryHarbor" (520 : Nat) ({ cls := "QueryHarbor", name := "anew", desc := "()LQueryHarbor$Answer;" } : Jvm.MethodName)) ∈ lw_all := lw_g (lw_at lw_m7 61 rfl) rfl
theorem q1586 : (Jvm.Cond.privateMethod ({ cls := "QueryHarbor", name := "anew", desc := "()LQueryHarbor$Answer;" } : Jvm.MethodName)) ∈ lw_tbl := lw_at lw_m7 62 rfl
theorem q1587 : (Jvm.Cond.instanceMethod ({ cls := "QueryHarbor", name := "anew", desc := "()LQueryHarbor$Answer;" } : Jvm.MethodName)) ∈ lw_all := lw_g (lw_at lw_m7 63 rfl) rfl
theorem q1588 : (Jvm.Cond.code ({ cls := "QueryHarbor", name := "anew", desc := "()LQueryHarbor$Answer;" } : Jvm.MethodName) prog_1_method_68_code (4 : Nat) (Option.some (Jvm.ClassFile.FieldType.object "QueryHarbor$Answer"))) ∈ lw_all := lw_g (lw_at lw_m7 64 rfl) rfl
theorem q1593 : (Jvm.Cond.instanceMethod ({ cls := "QueryHarbor", name := "answerAnew", desc := "(II)I" } : Jvm.MethodName)) ∈ lw_all := lw_g (lw_at lw_m7 69 rfl) rfl
theorem q1594 : (Jvm.Cond.selects "QueryHarbor" ({ cls := "QueryHarbor", name := "answerAnew", desc := "(II)I" } : Jvm.MethodName) ({ cls := "QueryHarbor", name := "answerAnew", desc := "(II)I" } : Jvm.MethodName)) ∈ lw_all := lw_g (lw_at lw_m7 70 rfl) rfl
theorem q1595 : (Jvm.Cond.code ({ cls := "QueryHarbor", name := "answerAnew", desc := "(II)I" } : Jvm.MethodName) prog_1_method_70_code (3 : Nat) (Option.some Jvm.ClassFile.FieldType.int)) ∈ lw_all := lw_g (lw_at lw_m7 71 rfl) rfl
theorem q1600 : (Jvm.Cond.instanceMethod ({ cls := "QueryHarbor", name := "step", desc := "(IIIIII)I" } : Jvm.MethodName)) ∈ lw_all := lw_g (lw_at lw_m7 76 rfl) rfl
theorem q1601 : (Jvm.Cond.selects "QueryHarbor" ({ cls := "QueryHarbor", name := "step", desc := "(IIIIII)I" } : Jvm.MethodName) ({ cls := "QueryHarbor", name := "step", desc := "(IIIIII)I" } : Jvm.MethodName)) ∈ lw_all := lw_g (lw_at lw_m7 77 rfl) rfl
theorem q1602 : (Jvm.Cond.code ({ cls := "QueryHarbor", name := "step", desc := "(IIIIII)I" } : Jvm.MethodName) prog_1_method_71_code (7 : Nat) (Option.some Jvm.ClassFile.FieldType.int)) ∈ lw_all := lw_g (lw_at lw_m7 78 rfl) rfl
theorem q1607 : (Jvm.Cond.instanceMethod ({ cls := "QueryHarbor", name := "run", desc := "()I" } : Jvm.MethodName)) ∈ lw_all := lw_g (lw_at lw_m7 83 rfl) rfl
theorem q1608 : (Jvm.Cond.selects "QueryHarbor" ({ cls := "QueryHarbor", name := "run", desc := "()I" } : Jvm.MethodName) ({ cls := "QueryHarbor", name := "run", desc := "()I" } : Jvm.MethodName)) ∈ lw_all := lw_g (lw_at lw_m7 84 rfl) rfl
theorem q1609 : (Jvm.Cond.code ({ cls := "QueryHarbor", name := "run", desc := "()I" } : Jvm.MethodName) prog_1_method_75_code (4 : Nat) (Option.some Jvm.ClassFile.FieldType.int)) ∈ lw_all := lw_g (lw_at lw_m7 85 rfl) rfl
theorem q1610 : (Jvm.Cond.methodLink "QueryHarbor" (545 : Nat) ({ cls := "QueryHarbor", name := "isDone", desc := "([ILjava/util/ArrayList;)Z" } : Jvm.MethodName)) ∈ lw_all := lw_g (lw_at lw_m7 86 rfl) rfl
theorem q1611 : (Jvm.Cond.privateMethod ({ cls := "QueryHarbor", name := "isDone", desc := "([ILjava/util/ArrayList;)Z" } : Jvm.MethodName)) ∈ lw_tbl := lw_at lw_m7 87 rfl
theorem q1612 : (Jvm.Cond.instanceMethod ({ cls := "QueryHarbor", name := "isDone", desc := "([ILjava/util/ArrayList;)Z" } : Jvm.MethodName)) ∈ lw_all := lw_g (lw_at lw_m7 88 rfl) rfl
theorem q1613 : (Jvm.Cond.codeWith ({ cls := "QueryHarbor", name := "isDone", desc := "([ILjava/util/ArrayList;)Z" } : Jvm.MethodName) prog_1_method_74_code (10 : Nat) (Option.some Jvm.ClassFile.FieldType.boolean) [((41 : Nat), (53 : Nat), (56 : Nat), (330 : Nat)), ((41 : Nat), (53 : Nat), (56 : Nat), (314 : Nat))]) ∈ lw_all := lw_g (lw_at lw_m7 89 rfl) rfl
theorem q1614 : (Jvm.Cond.methodLink "QueryHarbor" (541 : Nat) ({ cls := "QueryHarbor", name := "done", desc := "([I)LQueryHarbor$Done;" } : Jvm.MethodName)) ∈ lw_all := lw_g (lw_at lw_m7 90 rfl) rfl
theorem q1615 : (Jvm.Cond.privateMethod ({ cls := "QueryHarbor", name := "done", desc := "([I)LQueryHarbor$Done;" } : Jvm.MethodName)) ∈ lw_tbl := lw_at lw_m7 91 rfl
theorem q1616 : (Jvm.Cond.instanceMethod ({ cls := "QueryHarbor", name := "done", desc := "([I)LQueryHarbor$Done;" } : Jvm.MethodName)) ∈ lw_all := lw_g (lw_at lw_m7 92 rfl) rfl
theorem q1617 : (Jvm.Cond.codeWith ({ cls := "QueryHarbor", name := "done", desc := "([I)LQueryHarbor$Done;" } : Jvm.MethodName) prog_1_method_73_code (4 : Nat) (Option.some (Jvm.ClassFile.FieldType.object "QueryHarbor$Done")) [((9 : Nat), (50 : Nat), (124 : Nat), (91 : Nat)), ((9 : Nat), (50 : Nat), (124 : Nat), (98 : Nat)), ((9 : Nat), (50 : Nat), (124 : Nat), (107 : Nat)), ((51 : Nat), (100 : Nat), (124 : Nat), (91 : Nat)), ((51 : Nat), (100 : Nat), (124 : Nat), (98 : Nat)), ((51 : Nat), (100 : Nat), (124 : Nat), (107 : Nat)), ((101 : Nat), (123 : Nat), (124 : Nat), (91 : Nat)), ((101 : Nat), (123 : Nat), (124 : Nat), (98 : Nat)), ((101 : Nat), (123 : Nat), (124 : Nat), (107 : Nat))]) ∈ lw_all := lw_g (lw_at lw_m7 93 rfl) rfl
theorem q1618 : (Jvm.Cond.methodLink "QueryHarbor" (524 : Nat) ({ cls := "QueryHarbor", name := "add", desc := "(IIIII)I" } : Jvm.MethodName)) ∈ lw_all := lw_g (lw_at lw_m7 94 rfl) rfl
theorem q1619 : (Jvm.Cond.classLink "QueryHarbor" (527 : Nat) "QueryHarbor$Done") ∈ lw_all := lw_g (lw_at lw_m7 95 rfl) rfl
theorem q1621 : (Jvm.Cond.methodLink "QueryHarbor" (529 : Nat) ({ cls := "QueryHarbor", name := "find", desc := "(LQueryHarbor$Source;I)LQueryHarbor$Row;" } : Jvm.MethodName)) ∈ lw_all := lw_g (lw_at lw_m7 97 rfl) rfl
theorem q1622 : (Jvm.Cond.static ({ cls := "QueryHarbor", name := "find", desc := "(LQueryHarbor$Source;I)LQueryHarbor$Row;" } : Jvm.MethodName)) ∈ lw_all := lw_g (lw_at lw_m7 98 rfl) rfl
theorem q1623 : (Jvm.Cond.code ({ cls := "QueryHarbor", name := "find", desc := "(LQueryHarbor$Source;I)LQueryHarbor$Row;" } : Jvm.MethodName) prog_1_method_72_code (3 : Nat) (Option.some (Jvm.ClassFile.FieldType.object "QueryHarbor$Row"))) ∈ lw_all := lw_g (lw_at lw_m7 99 rfl) rfl
theorem q1624 : (Jvm.Cond.methodLink "QueryHarbor" (532 : Nat) ({ cls := "QueryHarbor$Done", name := "<init>", desc := "(LQueryHarbor;LQueryHarbor$Source;LQueryHarbor$Row;LQueryHarbor$Row;)V" } : Jvm.MethodName)) ∈ lw_all := lw_g (lw_at lw_m7 100 rfl) rfl
theorem q1641 : (Jvm.Cond.methodLink "QueryHarbor" (535 : Nat) ({ cls := "QueryHarbor", name := "change", desc := "(IIII)I" } : Jvm.MethodName)) ∈ lw_all := lw_g (lw_at lw_m7 117 rfl) rfl
theorem q1642 : (Jvm.Cond.methodLink "QueryHarbor" (539 : Nat) ({ cls := "QueryHarbor", name := "remove", desc := "(II)I" } : Jvm.MethodName)) ∈ lw_all := lw_g (lw_at lw_m7 118 rfl) rfl
theorem q1643 : (Jvm.Cond.methodLink "QueryHarbor" (549 : Nat) ({ cls := "QueryHarbor$Done", name := "takeBack", desc := "()V" } : Jvm.MethodName)) ∈ lw_all := lw_g (lw_at lw_m7 119 rfl) rfl
theorem q2338 : (Jvm.Cond.castable "QueryHarbor" "java/lang/Object") ∈ lw_tbl := lw_at lw_m10 94 rfl
theorem in_X1 : ∀ w ∈ wsX10, w ∈ lw_all := lw_in wsX10 [317, 319, 321, 323, 325, 327, 329, 331, 333, 335, 337, 339, 341, 343, 345, 347] (by decide +kernel) (by decide +kernel)
