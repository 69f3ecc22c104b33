/-! QueryHarborModel -/
set_option maxRecDepth 100000
def RX8 : String := "QueryHarborModel"
def TX8 : u_T := fun k => match k with
  | 0 => ("QueryHarborModel", "thrown", "I", false)
  | 1 => ("QueryHarborModel", "many", "[I", true)
  | 2 => ("QueryHarborModel", "mark", "[I", true)
  | 3 => ("QueryHarborModel", "cells", "[I", true)
  | 4 => ("QueryHarborModel", "added", "[I", true)
  | 5 => ("QueryHarborModel", "lastWrite", "[I", true)
  | 6 => ("QueryHarborModel", "losses", "I", false)
  | 7 => ("QueryHarborModel", "moment", "I", false)
  | 8 => ("QueryHarborModel", "now", "I", false)
  | 9 => ("QueryHarborModel", "delay", "[I", true)
  | 10 => ("QueryHarborModel", "lag", "[I", true)
  | 11 => ("QueryHarborModel", "quota", "[I", true)
  | 12 => ("QueryHarborModel", "cap", "[I", true)
  | 13 => ("QueryHarborModel", "lease", "[I", true)
  | 14 => ("QueryHarborModel", "failing", "[I", true)
  | 15 => ("QueryHarborModel", "doesIt", "[Z", true)
  | 16 => ("QueryHarborModel", "window", "[I", true)
  | 17 => ("QueryHarborModel", "used", "[I", true)
  | 18 => ("QueryHarborModel", "fee", "[I", true)
  | 19 => ("QueryHarborModel", "freight", "[I", true)
  | 20 => ("QueryHarborModel", "forbidden", "[I", true)
  | 21 => ("QueryHarborModel", "size", "[I", true)
  | 22 => ("QueryHarborModel", "seats", "I", false)
  | 23 => ("QueryHarborModel", "source", "[I", true)
  | 24 => ("QueryHarborModel", "links", "I", false)
  | 25 => ("QueryHarborModel", "linkSeat", "[I", true)
  | 26 => ("QueryHarborModel", "linkColumn", "[I", true)
  | 27 => ("QueryHarborModel", "linkOther", "[I", true)
  | 28 => ("QueryHarborModel", "linkOtherColumn", "[I", true)
  | 29 => ("QueryHarborModel", "conditions", "I", false)
  | 30 => ("QueryHarborModel", "whereSeat", "[I", true)
  | 31 => ("QueryHarborModel", "whereColumn", "[I", true)
  | 32 => ("QueryHarborModel", "whereKind", "[I", true)
  | 33 => ("QueryHarborModel", "whereNumber", "[I", true)
  | 34 => ("QueryHarborModel", "outputs", "I", false)
  | 35 => ("QueryHarborModel", "outSeat", "[I", true)
  | 36 => ("QueryHarborModel", "outColumn", "[I", true)
  | 37 => ("QueryHarborModel", "limit", "I", false)
  | 38 => ("QueryHarborModel", "groups", "Z", false)
  | 39 => ("QueryHarborModel", "entries", "I", false)
  | 40 => ("QueryHarborModel", "entrySource", "[I", true)
  | 41 => ("QueryHarborModel", "entryTick", "[I", true)
  | 42 => ("QueryHarborModel", "entrySince", "[I", true)
  | 43 => ("QueryHarborModel", "entryUntil", "[I", true)
  | 44 => ("QueryHarborModel", "entryDrop", "[I", true)
  | 45 => ("QueryHarborModel", "entryMany", "[I", true)
  | 46 => ("QueryHarborModel", "entryMark", "[I", true)
  | 47 => ("QueryHarborModel", "entryCells", "[I", true)
  | 48 => ("QueryHarborModel", "entryConditions", "[I", true)
  | 49 => ("QueryHarborModel", "entryColumn", "[I", true)
  | 50 => ("QueryHarborModel", "entryKind", "[I", true)
  | 51 => ("QueryHarborModel", "entryNumber", "[I", true)
  | 52 => ("QueryHarborModel", "asked", "I", false)
  | 53 => ("QueryHarborModel", "fresh", "I", false)
  | 54 => ("QueryHarborModel", "deadline", "I", false)
  | 55 => ("QueryHarborModel", "seatCost", "I", false)
  | 56 => ("QueryHarborModel", "isTaken", "[Z", true)
  | 57 => ("QueryHarborModel", "seatMany", "[I", true)
  | 58 => ("QueryHarborModel", "seatMark", "[I", true)
  | 59 => ("QueryHarborModel", "seatCells", "[I", true)
  | 60 => ("QueryHarborModel", "since", "[I", true)
  | 61 => ("QueryHarborModel", "until", "[I", true)
  | 62 => ("QueryHarborModel", "isCut", "Z", false)
  | 63 => ("QueryHarborModel", "keys", "I", false)
  | 64 => ("QueryHarborModel", "key", "[I", true)
  | 65 => ("QueryHarborModel", "rowMany", "[I", true)
  | 66 => ("QueryHarborModel", "rowCells", "[I", true)
  | 67 => ("QueryHarborModel", "at", "[I", true)
  | 68 => ("QueryHarborModel", "made", "I", false)
  | 69 => ("QueryHarborModel", "madeWide", "I", false)
  | 70 => ("QueryHarborModel", "madeCells", "[I", true)
  | 71 => ("QueryHarborModel", "grouped", "I", false)
  | 72 => ("QueryHarborModel", "groupCell", "[I", true)
  | 73 => ("QueryHarborModel", "groupMany", "[I", true)
  | 74 => ("QueryHarborModel", "groupSum", "[I", true)
  | 75 => ("QueryHarborModel", "answers", "I", false)
  | 76 => ("QueryHarborModel", "answerWide", "I", false)
  | 77 => ("QueryHarborModel", "answerCells", "[I", true)
  | 78 => ("QueryHarborModel", "open", "I", false)
  | 79 => ("QueryHarborModel", "claims", "I", false)
  | 80 => ("QueryHarborModel", "cost", "I", false)
  | 81 => ("QueryHarborModel", "attempts", "I", false)
  | 82 => ("QueryHarborModel", "shipped", "I", false)
  | 83 => ("QueryHarborModel", "taken", "I", false)
  | 84 => ("QueryHarborModel", "takenHow", "[I", true)
  | 85 => ("QueryHarborModel", "steps", "I", false)
  | 86 => ("QueryHarborModel", "stepKind", "[I", true)
  | 87 => ("QueryHarborModel", "stepSource", "[I", true)
  | 88 => ("QueryHarborModel", "stepA", "[I", true)
  | 89 => ("QueryHarborModel", "stepB", "[I", true)
  | 90 => ("QueryHarborModel", "stepC", "[I", true)
  | 91 => ("QueryHarborModel", "stepD", "[I", true)
  | 92 => ("QueryHarborModel", "wasMark", "[I", true)
  | _ => ("QueryHarborModel", "wasCells", "[I", true)
def tyX8 : Nat → FieldType := fun k => match k with
  | 0 => .int
  | 1 => .array .int
  | 2 => .array .int
  | 3 => .array .int
  | 4 => .array .int
  | 5 => .array .int
  | 6 => .int
  | 7 => .int
  | 8 => .int
  | 9 => .array .int
  | 10 => .array .int
  | 11 => .array .int
  | 12 => .array .int
  | 13 => .array .int
  | 14 => .array .int
  | 15 => .array .boolean
  | 16 => .array .int
  | 17 => .array .int
  | 18 => .array .int
  | 19 => .array .int
  | 20 => .array .int
  | 21 => .array .int
  | 22 => .int
  | 23 => .array .int
  | 24 => .int
  | 25 => .array .int
  | 26 => .array .int
  | 27 => .array .int
  | 28 => .array .int
  | 29 => .int
  | 30 => .array .int
  | 31 => .array .int
  | 32 => .array .int
  | 33 => .array .int
  | 34 => .int
  | 35 => .array .int
  | 36 => .array .int
  | 37 => .int
  | 38 => .boolean
  | 39 => .int
  | 40 => .array .int
  | 41 => .array .int
  | 42 => .array .int
  | 43 => .array .int
  | 44 => .array .int
  | 45 => .array .int
  | 46 => .array .int
  | 47 => .array .int
  | 48 => .array .int
  | 49 => .array .int
  | 50 => .array .int
  | 51 => .array .int
  | 52 => .int
  | 53 => .int
  | 54 => .int
  | 55 => .int
  | 56 => .array .boolean
  | 57 => .array .int
  | 58 => .array .int
  | 59 => .array .int
  | 60 => .array .int
  | 61 => .array .int
  | 62 => .boolean
  | 63 => .int
  | 64 => .array .int
  | 65 => .array .int
  | 66 => .array .int
  | 67 => .array .int
  | 68 => .int
  | 69 => .int
  | 70 => .array .int
  | 71 => .int
  | 72 => .array .int
  | 73 => .array .int
  | 74 => .array .int
  | 75 => .int
  | 76 => .int
  | 77 => .array .int
  | 78 => .int
  | 79 => .int
  | 80 => .int
  | 81 => .int
  | 82 => .int
  | 83 => .int
  | 84 => .array .int
  | 85 => .int
  | 86 => .array .int
  | 87 => .array .int
  | 88 => .array .int
  | 89 => .array .int
  | 90 => .array .int
  | 91 => .array .int
  | 92 => .array .int
  | _ => .array .int
abbrev wsX80 : List Cond := u_ws RX8 TX8 94
set_option maxRecDepth 100000 in
theorem nmX8 : ∀ a, a < 94 → ∀ b, b < 94 → a ≠ b → (TX8 a).2.1 ≠ (TX8 b).2.1 := by decide +kernel
set_option maxRecDepth 100000 in
theorem tyX8_ok : ∀ k, k < 94 → parseFieldDescriptor (TX8 k).2.2.1 = some (tyX8 k) := by decide +kernel
abbrev cX8_init : ByteArray := prog_20_method_1_code
def yX8_init : MethodName := ⟨RX8, "<init>", "()V"⟩
def dkwX8_init_26 : List UInt8 := [181, 0, 210, 177]
abbrev dktX8_init_26 : List UInt8 := dkwX8_init_26 ++ []
def dkwX8_init_25 : List UInt8 := [181, 0, 201, 42, 7, 188, 10, 181, 0, 204, 42, 7, 188, 10, 181, 0, 207, 42, 16, 16, 188, 10]
abbrev dktX8_init_25 : List UInt8 := dkwX8_init_25 ++ dktX8_init_26
def dkwX8_init_24 : List UInt8 := [188, 10, 181, 0, 192, 42, 7, 188, 10, 181, 0, 195, 42, 7, 188, 10, 181, 0, 198, 42, 7, 188, 10]
abbrev dktX8_init_24 : List UInt8 := dkwX8_init_24 ++ dktX8_init_25
def dkwX8_init_23 : List UInt8 := [181, 0, 180, 42, 2, 181, 0, 183, 42, 6, 188, 10, 181, 0, 186, 42, 7, 188, 10, 181, 0, 189, 42, 7]
abbrev dktX8_init_23 : List UInt8 := dkwX8_init_23 ++ dktX8_init_24
def dkwX8_init_22 : List UInt8 := [181, 0, 171, 42, 16, 12, 188, 10, 181, 0, 174, 42, 16, 12, 188, 10, 181, 0, 177, 42, 16, 120, 188, 10]
abbrev dktX8_init_22 : List UInt8 := dkwX8_init_22 ++ dktX8_init_23
def dkwX8_init_21 : List UInt8 := [181, 0, 162, 42, 6, 188, 10, 181, 0, 165, 42, 16, 120, 188, 10, 181, 0, 168, 42, 16, 12, 188, 10]
abbrev dktX8_init_21 : List UInt8 := dkwX8_init_21 ++ dktX8_init_22
def dkwX8_init_20 : List UInt8 := [181, 0, 153, 42, 16, 12, 188, 10, 181, 0, 156, 42, 6, 188, 10, 181, 0, 159, 42, 17, 0, 144, 188, 10]
abbrev dktX8_init_20 : List UInt8 := dkwX8_init_20 ++ dktX8_init_21
def dkwX8_init_19 : List UInt8 := [181, 0, 144, 42, 17, 0, 144, 188, 10, 181, 0, 147, 42, 6, 188, 10, 181, 0, 150, 42, 6, 188, 10]
abbrev dktX8_init_19 : List UInt8 := dkwX8_init_19 ++ dktX8_init_20
def dkwX8_init_18 : List UInt8 := [188, 10, 181, 0, 135, 42, 6, 188, 4, 181, 0, 138, 42, 6, 188, 10, 181, 0, 141, 42, 16, 36, 188, 10]
abbrev dktX8_init_18 : List UInt8 := dkwX8_init_18 ++ dktX8_init_19
def dkwX8_init_17 : List UInt8 := [188, 10, 181, 0, 126, 42, 16, 24, 188, 10, 181, 0, 129, 42, 16, 24, 188, 10, 181, 0, 132, 42, 16, 24]
abbrev dktX8_init_17 : List UInt8 := dkwX8_init_17 ++ dktX8_init_18
def dkwX8_init_16 : List UInt8 := [181, 0, 117, 42, 16, 72, 188, 10, 181, 0, 120, 42, 17, 1, 32, 188, 10, 181, 0, 123, 42, 16, 6]
abbrev dktX8_init_16 : List UInt8 := dkwX8_init_16 ++ dktX8_init_17
def dkwX8_init_15 : List UInt8 := [181, 0, 108, 42, 16, 6, 188, 10, 181, 0, 111, 42, 16, 6, 188, 10, 181, 0, 114, 42, 16, 6, 188, 10]
abbrev dktX8_init_15 : List UInt8 := dkwX8_init_15 ++ dktX8_init_16
def dkwX8_init_14 : List UInt8 := [181, 0, 98, 42, 16, 6, 188, 10, 181, 0, 102, 42, 16, 6, 188, 10, 181, 0, 105, 42, 16, 6, 188, 10]
abbrev dktX8_init_14 : List UInt8 := dkwX8_init_14 ++ dktX8_init_15
def dkwX8_init_13 : List UInt8 := [188, 10, 181, 0, 89, 42, 6, 188, 10, 181, 0, 92, 42, 6, 188, 10, 181, 0, 95, 42, 16, 40]
abbrev dktX8_init_13 : List UInt8 := dkwX8_init_13 ++ dktX8_init_14
def dkwX8_init_12 : List UInt8 := [42, 7, 188, 10, 181, 0, 80, 42, 7, 188, 10, 181, 0, 83, 42, 7, 188, 10, 181, 0, 86, 42, 7]
abbrev dktX8_init_12 : List UInt8 := dkwX8_init_12 ++ dktX8_init_13
def dkwX8_init_11 : List UInt8 := [181, 0, 68, 42, 6, 188, 10, 181, 0, 71, 42, 6, 188, 10, 181, 0, 74, 42, 6, 188, 10, 181, 0, 77]
abbrev dktX8_init_11 : List UInt8 := dkwX8_init_11 ++ dktX8_init_12
def dkwX8_init_10 : List UInt8 := [89, 7, 16, 10, 79, 89, 8, 16, 10, 79, 181, 0, 62, 42, 6, 188, 10, 181, 0, 65, 42, 6, 188, 10]
abbrev dktX8_init_10 : List UInt8 := dkwX8_init_10 ++ dktX8_init_11
def dkwX8_init_9 : List UInt8 := [16, 6, 188, 10, 89, 3, 16, 10, 79, 89, 4, 16, 10, 79, 89, 5, 16, 10, 79, 89, 6, 16, 10, 79]
abbrev dktX8_init_9 : List UInt8 := dkwX8_init_9 ++ dktX8_init_10
def dkwX8_init_8 : List UInt8 := [3, 4, 79, 89, 4, 4, 79, 89, 5, 5, 79, 181, 0, 56, 42, 16, 6, 188, 10, 181, 0, 59, 42]
abbrev dktX8_init_8 : List UInt8 := dkwX8_init_8 ++ dktX8_init_9
def dkwX8_init_7 : List UInt8 := [42, 6, 188, 10, 89, 3, 8, 79, 89, 4, 4, 79, 89, 5, 6, 79, 181, 0, 53, 42, 6, 188, 10, 89]
abbrev dktX8_init_7 : List UInt8 := dkwX8_init_7 ++ dktX8_init_8
def dkwX8_init_6 : List UInt8 := [181, 0, 40, 42, 6, 188, 4, 181, 0, 43, 42, 6, 188, 10, 181, 0, 47, 42, 6, 188, 10, 181, 0, 50]
abbrev dktX8_init_6 : List UInt8 := dkwX8_init_6 ++ dktX8_init_7
def dkwX8_init_5 : List UInt8 := [89, 3, 16, 60, 79, 89, 4, 16, 60, 79, 89, 5, 16, 60, 79, 181, 0, 37, 42, 6, 188, 10]
abbrev dktX8_init_5 : List UInt8 := dkwX8_init_5 ++ dktX8_init_6
def dkwX8_init_4 : List UInt8 := [188, 10, 89, 3, 16, 12, 79, 89, 4, 16, 12, 79, 89, 5, 16, 12, 79, 181, 0, 34, 42, 6, 188, 10]
abbrev dktX8_init_4 : List UInt8 := dkwX8_init_4 ++ dktX8_init_5
def dkwX8_init_3 : List UInt8 := [42, 6, 188, 10, 89, 3, 16, 20, 79, 89, 4, 16, 20, 79, 89, 5, 16, 20, 79, 181, 0, 31, 42, 6]
abbrev dktX8_init_3 : List UInt8 := dkwX8_init_3 ++ dktX8_init_4
def dkwX8_init_2 : List UInt8 := [188, 10, 89, 3, 4, 79, 89, 4, 4, 79, 89, 5, 4, 79, 181, 0, 25, 42, 6, 188, 10, 181, 0, 28]
abbrev dktX8_init_2 : List UInt8 := dkwX8_init_2 ++ dktX8_init_3
def dkwX8_init_1 : List UInt8 := [188, 10, 181, 0, 16, 42, 16, 6, 188, 10, 181, 0, 19, 42, 16, 6, 188, 10, 181, 0, 22, 42, 6]
abbrev dktX8_init_1 : List UInt8 := dkwX8_init_1 ++ dktX8_init_2
def dkwX8_init_0 : List UInt8 := [42, 183, 0, 1, 42, 16, 6, 188, 10, 181, 0, 7, 42, 16, 72, 188, 10, 181, 0, 13, 42, 17, 1, 32]
abbrev dktX8_init_0 : List UInt8 := dkwX8_init_0 ++ dktX8_init_1
theorem dksX8_init_0 : cX8_init.data.toList.drop 0 = dktX8_init_0 := by decide +kernel
theorem dksX8_init_1 : cX8_init.data.toList.drop 24 = dktX8_init_1 := dk_seg dksX8_init_0 24 rfl rfl
theorem dksX8_init_2 : cX8_init.data.toList.drop 47 = dktX8_init_2 := dk_seg dksX8_init_1 23 rfl rfl
theorem dksX8_init_3 : cX8_init.data.toList.drop 71 = dktX8_init_3 := dk_seg dksX8_init_2 24 rfl rfl
theorem dksX8_init_4 : cX8_init.data.toList.drop 95 = dktX8_init_4 := dk_seg dksX8_init_3 24 rfl rfl
theorem dksX8_init_5 : cX8_init.data.toList.drop 119 = dktX8_init_5 := dk_seg dksX8_init_4 24 rfl rfl
theorem dksX8_init_6 : cX8_init.data.toList.drop 141 = dktX8_init_6 := dk_seg dksX8_init_5 22 rfl rfl
theorem dksX8_init_7 : cX8_init.data.toList.drop 165 = dktX8_init_7 := dk_seg dksX8_init_6 24 rfl rfl
theorem dksX8_init_8 : cX8_init.data.toList.drop 189 = dktX8_init_8 := dk_seg dksX8_init_7 24 rfl rfl
theorem dksX8_init_9 : cX8_init.data.toList.drop 212 = dktX8_init_9 := dk_seg dksX8_init_8 23 rfl rfl
theorem dksX8_init_10 : cX8_init.data.toList.drop 236 = dktX8_init_10 := dk_seg dksX8_init_9 24 rfl rfl
theorem dksX8_init_11 : cX8_init.data.toList.drop 260 = dktX8_init_11 := dk_seg dksX8_init_10 24 rfl rfl
theorem dksX8_init_12 : cX8_init.data.toList.drop 284 = dktX8_init_12 := dk_seg dksX8_init_11 24 rfl rfl
theorem dksX8_init_13 : cX8_init.data.toList.drop 307 = dktX8_init_13 := dk_seg dksX8_init_12 23 rfl rfl
theorem dksX8_init_14 : cX8_init.data.toList.drop 329 = dktX8_init_14 := dk_seg dksX8_init_13 22 rfl rfl
theorem dksX8_init_15 : cX8_init.data.toList.drop 353 = dktX8_init_15 := dk_seg dksX8_init_14 24 rfl rfl
theorem dksX8_init_16 : cX8_init.data.toList.drop 377 = dktX8_init_16 := dk_seg dksX8_init_15 24 rfl rfl
theorem dksX8_init_17 : cX8_init.data.toList.drop 400 = dktX8_init_17 := dk_seg dksX8_init_16 23 rfl rfl
theorem dksX8_init_18 : cX8_init.data.toList.drop 424 = dktX8_init_18 := dk_seg dksX8_init_17 24 rfl rfl
theorem dksX8_init_19 : cX8_init.data.toList.drop 448 = dktX8_init_19 := dk_seg dksX8_init_18 24 rfl rfl
theorem dksX8_init_20 : cX8_init.data.toList.drop 471 = dktX8_init_20 := dk_seg dksX8_init_19 23 rfl rfl
theorem dksX8_init_21 : cX8_init.data.toList.drop 495 = dktX8_init_21 := dk_seg dksX8_init_20 24 rfl rfl
theorem dksX8_init_22 : cX8_init.data.toList.drop 518 = dktX8_init_22 := dk_seg dksX8_init_21 23 rfl rfl
theorem dksX8_init_23 : cX8_init.data.toList.drop 542 = dktX8_init_23 := dk_seg dksX8_init_22 24 rfl rfl
theorem dksX8_init_24 : cX8_init.data.toList.drop 566 = dktX8_init_24 := dk_seg dksX8_init_23 24 rfl rfl
theorem dksX8_init_25 : cX8_init.data.toList.drop 589 = dktX8_init_25 := dk_seg dksX8_init_24 23 rfl rfl
theorem dksX8_init_26 : cX8_init.data.toList.drop 611 = dktX8_init_26 := dk_seg dksX8_init_25 22 rfl rfl
theorem dX8_init_0 : decode cX8_init 0 = .ok (.aload_n 0, 1) := dk_42 (dk_at dksX8_init_0 0 rfl rfl)
theorem dX8_init_1 : decode cX8_init 1 = .ok (.invokespecial 1, 3) := dk_183 0 1 (dk_at dksX8_init_0 1 rfl rfl)
theorem dX8_init_4 : decode cX8_init 4 = .ok (.aload_n 0, 1) := dk_42 (dk_at dksX8_init_0 4 rfl rfl)
theorem dX8_init_5 : decode cX8_init 5 = .ok (.bipush 6, 2) := dk_16 6 (dk_at dksX8_init_0 5 rfl rfl)
theorem dX8_init_7 : decode cX8_init 7 = .ok (.newarray .int, 2) := dk_188_10 (dk_at dksX8_init_0 7 rfl rfl)
theorem dX8_init_9 : decode cX8_init 9 = .ok (.putfield 7, 3) := dk_181 0 7 (dk_at dksX8_init_0 9 rfl rfl)
theorem dX8_init_12 : decode cX8_init 12 = .ok (.aload_n 0, 1) := dk_42 (dk_at dksX8_init_0 12 rfl rfl)
theorem dX8_init_13 : decode cX8_init 13 = .ok (.bipush 72, 2) := dk_16 72 (dk_at dksX8_init_0 13 rfl rfl)
theorem dX8_init_15 : decode cX8_init 15 = .ok (.newarray .int, 2) := dk_188_10 (dk_at dksX8_init_0 15 rfl rfl)
theorem dX8_init_17 : decode cX8_init 17 = .ok (.putfield 13, 3) := dk_181 0 13 (dk_at dksX8_init_0 17 rfl rfl)
theorem dX8_init_20 : decode cX8_init 20 = .ok (.aload_n 0, 1) := dk_42 (dk_at dksX8_init_0 20 rfl rfl)
theorem dX8_init_21 : decode cX8_init 21 = .ok (.sipush 288, 3) := dk_17 1 32 (dk_at dksX8_init_0 21 rfl rfl)
theorem dX8_init_24 : decode cX8_init 24 = .ok (.newarray .int, 2) := dk_188_10 (dk_at dksX8_init_1 0 rfl rfl)
theorem dX8_init_26 : decode cX8_init 26 = .ok (.putfield 16, 3) := dk_181 0 16 (dk_at dksX8_init_1 2 rfl rfl)
theorem dX8_init_29 : decode cX8_init 29 = .ok (.aload_n 0, 1) := dk_42 (dk_at dksX8_init_1 5 rfl rfl)
theorem dX8_init_30 : decode cX8_init 30 = .ok (.bipush 6, 2) := dk_16 6 (dk_at dksX8_init_1 6 rfl rfl)
theorem dX8_init_32 : decode cX8_init 32 = .ok (.newarray .int, 2) := dk_188_10 (dk_at dksX8_init_1 8 rfl rfl)
theorem dX8_init_34 : decode cX8_init 34 = .ok (.putfield 19, 3) := dk_181 0 19 (dk_at dksX8_init_1 10 rfl rfl)
theorem dX8_init_37 : decode cX8_init 37 = .ok (.aload_n 0, 1) := dk_42 (dk_at dksX8_init_1 13 rfl rfl)
theorem dX8_init_38 : decode cX8_init 38 = .ok (.bipush 6, 2) := dk_16 6 (dk_at dksX8_init_1 14 rfl rfl)
theorem dX8_init_40 : decode cX8_init 40 = .ok (.newarray .int, 2) := dk_188_10 (dk_at dksX8_init_1 16 rfl rfl)
theorem dX8_init_42 : decode cX8_init 42 = .ok (.putfield 22, 3) := dk_181 0 22 (dk_at dksX8_init_1 18 rfl rfl)
theorem dX8_init_45 : decode cX8_init 45 = .ok (.aload_n 0, 1) := dk_42 (dk_at dksX8_init_1 21 rfl rfl)
theorem dX8_init_46 : decode cX8_init 46 = .ok (.iconst 3, 1) := dk_6 (dk_at dksX8_init_1 22 rfl rfl)
theorem dX8_init_47 : decode cX8_init 47 = .ok (.newarray .int, 2) := dk_188_10 (dk_at dksX8_init_2 0 rfl rfl)
theorem dX8_init_49 : decode cX8_init 49 = .ok (.dup, 1) := dk_89 (dk_at dksX8_init_2 2 rfl rfl)
theorem dX8_init_50 : decode cX8_init 50 = .ok (.iconst 0, 1) := dk_3 (dk_at dksX8_init_2 3 rfl rfl)
theorem dX8_init_51 : decode cX8_init 51 = .ok (.iconst 1, 1) := dk_4 (dk_at dksX8_init_2 4 rfl rfl)
theorem dX8_init_52 : decode cX8_init 52 = .ok (.iastore, 1) := dk_79 (dk_at dksX8_init_2 5 rfl rfl)
theorem dX8_init_53 : decode cX8_init 53 = .ok (.dup, 1) := dk_89 (dk_at dksX8_init_2 6 rfl rfl)
theorem dX8_init_54 : decode cX8_init 54 = .ok (.iconst 1, 1) := dk_4 (dk_at dksX8_init_2 7 rfl rfl)
theorem dX8_init_55 : decode cX8_init 55 = .ok (.iconst 1, 1) := dk_4 (dk_at dksX8_init_2 8 rfl rfl)
theorem dX8_init_56 : decode cX8_init 56 = .ok (.iastore, 1) := dk_79 (dk_at dksX8_init_2 9 rfl rfl)
theorem dX8_init_57 : decode cX8_init 57 = .ok (.dup, 1) := dk_89 (dk_at dksX8_init_2 10 rfl rfl)
theorem dX8_init_58 : decode cX8_init 58 = .ok (.iconst 2, 1) := dk_5 (dk_at dksX8_init_2 11 rfl rfl)
theorem dX8_init_59 : decode cX8_init 59 = .ok (.iconst 1, 1) := dk_4 (dk_at dksX8_init_2 12 rfl rfl)
theorem dX8_init_60 : decode cX8_init 60 = .ok (.iastore, 1) := dk_79 (dk_at dksX8_init_2 13 rfl rfl)
theorem dX8_init_61 : decode cX8_init 61 = .ok (.putfield 25, 3) := dk_181 0 25 (dk_at dksX8_init_2 14 rfl rfl)
theorem dX8_init_64 : decode cX8_init 64 = .ok (.aload_n 0, 1) := dk_42 (dk_at dksX8_init_2 17 rfl rfl)
theorem dX8_init_65 : decode cX8_init 65 = .ok (.iconst 3, 1) := dk_6 (dk_at dksX8_init_2 18 rfl rfl)
theorem dX8_init_66 : decode cX8_init 66 = .ok (.newarray .int, 2) := dk_188_10 (dk_at dksX8_init_2 19 rfl rfl)
theorem dX8_init_68 : decode cX8_init 68 = .ok (.putfield 28, 3) := dk_181 0 28 (dk_at dksX8_init_2 21 rfl rfl)
theorem dX8_init_71 : decode cX8_init 71 = .ok (.aload_n 0, 1) := dk_42 (dk_at dksX8_init_3 0 rfl rfl)
theorem dX8_init_72 : decode cX8_init 72 = .ok (.iconst 3, 1) := dk_6 (dk_at dksX8_init_3 1 rfl rfl)
theorem dX8_init_73 : decode cX8_init 73 = .ok (.newarray .int, 2) := dk_188_10 (dk_at dksX8_init_3 2 rfl rfl)
theorem dX8_init_75 : decode cX8_init 75 = .ok (.dup, 1) := dk_89 (dk_at dksX8_init_3 4 rfl rfl)
theorem dX8_init_76 : decode cX8_init 76 = .ok (.iconst 0, 1) := dk_3 (dk_at dksX8_init_3 5 rfl rfl)
theorem dX8_init_77 : decode cX8_init 77 = .ok (.bipush 20, 2) := dk_16 20 (dk_at dksX8_init_3 6 rfl rfl)
theorem dX8_init_79 : decode cX8_init 79 = .ok (.iastore, 1) := dk_79 (dk_at dksX8_init_3 8 rfl rfl)
theorem dX8_init_80 : decode cX8_init 80 = .ok (.dup, 1) := dk_89 (dk_at dksX8_init_3 9 rfl rfl)
theorem dX8_init_81 : decode cX8_init 81 = .ok (.iconst 1, 1) := dk_4 (dk_at dksX8_init_3 10 rfl rfl)
theorem dX8_init_82 : decode cX8_init 82 = .ok (.bipush 20, 2) := dk_16 20 (dk_at dksX8_init_3 11 rfl rfl)
theorem dX8_init_84 : decode cX8_init 84 = .ok (.iastore, 1) := dk_79 (dk_at dksX8_init_3 13 rfl rfl)
theorem dX8_init_85 : decode cX8_init 85 = .ok (.dup, 1) := dk_89 (dk_at dksX8_init_3 14 rfl rfl)
theorem dX8_init_86 : decode cX8_init 86 = .ok (.iconst 2, 1) := dk_5 (dk_at dksX8_init_3 15 rfl rfl)
theorem dX8_init_87 : decode cX8_init 87 = .ok (.bipush 20, 2) := dk_16 20 (dk_at dksX8_init_3 16 rfl rfl)
theorem dX8_init_89 : decode cX8_init 89 = .ok (.iastore, 1) := dk_79 (dk_at dksX8_init_3 18 rfl rfl)
theorem dX8_init_90 : decode cX8_init 90 = .ok (.putfield 31, 3) := dk_181 0 31 (dk_at dksX8_init_3 19 rfl rfl)
theorem dX8_init_93 : decode cX8_init 93 = .ok (.aload_n 0, 1) := dk_42 (dk_at dksX8_init_3 22 rfl rfl)
theorem dX8_init_94 : decode cX8_init 94 = .ok (.iconst 3, 1) := dk_6 (dk_at dksX8_init_3 23 rfl rfl)
theorem dX8_init_95 : decode cX8_init 95 = .ok (.newarray .int, 2) := dk_188_10 (dk_at dksX8_init_4 0 rfl rfl)
theorem dX8_init_97 : decode cX8_init 97 = .ok (.dup, 1) := dk_89 (dk_at dksX8_init_4 2 rfl rfl)
theorem dX8_init_98 : decode cX8_init 98 = .ok (.iconst 0, 1) := dk_3 (dk_at dksX8_init_4 3 rfl rfl)
theorem dX8_init_99 : decode cX8_init 99 = .ok (.bipush 12, 2) := dk_16 12 (dk_at dksX8_init_4 4 rfl rfl)
theorem dX8_init_101 : decode cX8_init 101 = .ok (.iastore, 1) := dk_79 (dk_at dksX8_init_4 6 rfl rfl)
theorem dX8_init_102 : decode cX8_init 102 = .ok (.dup, 1) := dk_89 (dk_at dksX8_init_4 7 rfl rfl)
theorem dX8_init_103 : decode cX8_init 103 = .ok (.iconst 1, 1) := dk_4 (dk_at dksX8_init_4 8 rfl rfl)
theorem dX8_init_104 : decode cX8_init 104 = .ok (.bipush 12, 2) := dk_16 12 (dk_at dksX8_init_4 9 rfl rfl)
theorem dX8_init_106 : decode cX8_init 106 = .ok (.iastore, 1) := dk_79 (dk_at dksX8_init_4 11 rfl rfl)
theorem dX8_init_107 : decode cX8_init 107 = .ok (.dup, 1) := dk_89 (dk_at dksX8_init_4 12 rfl rfl)
theorem dX8_init_108 : decode cX8_init 108 = .ok (.iconst 2, 1) := dk_5 (dk_at dksX8_init_4 13 rfl rfl)
theorem dX8_init_109 : decode cX8_init 109 = .ok (.bipush 12, 2) := dk_16 12 (dk_at dksX8_init_4 14 rfl rfl)
theorem dX8_init_111 : decode cX8_init 111 = .ok (.iastore, 1) := dk_79 (dk_at dksX8_init_4 16 rfl rfl)
theorem dX8_init_112 : decode cX8_init 112 = .ok (.putfield 34, 3) := dk_181 0 34 (dk_at dksX8_init_4 17 rfl rfl)
theorem dX8_init_115 : decode cX8_init 115 = .ok (.aload_n 0, 1) := dk_42 (dk_at dksX8_init_4 20 rfl rfl)
theorem dX8_init_116 : decode cX8_init 116 = .ok (.iconst 3, 1) := dk_6 (dk_at dksX8_init_4 21 rfl rfl)
theorem dX8_init_117 : decode cX8_init 117 = .ok (.newarray .int, 2) := dk_188_10 (dk_at dksX8_init_4 22 rfl rfl)
theorem dX8_init_119 : decode cX8_init 119 = .ok (.dup, 1) := dk_89 (dk_at dksX8_init_5 0 rfl rfl)
theorem dX8_init_120 : decode cX8_init 120 = .ok (.iconst 0, 1) := dk_3 (dk_at dksX8_init_5 1 rfl rfl)
theorem dX8_init_121 : decode cX8_init 121 = .ok (.bipush 60, 2) := dk_16 60 (dk_at dksX8_init_5 2 rfl rfl)
theorem dX8_init_123 : decode cX8_init 123 = .ok (.iastore, 1) := dk_79 (dk_at dksX8_init_5 4 rfl rfl)
theorem dX8_init_124 : decode cX8_init 124 = .ok (.dup, 1) := dk_89 (dk_at dksX8_init_5 5 rfl rfl)
theorem dX8_init_125 : decode cX8_init 125 = .ok (.iconst 1, 1) := dk_4 (dk_at dksX8_init_5 6 rfl rfl)
theorem dX8_init_126 : decode cX8_init 126 = .ok (.bipush 60, 2) := dk_16 60 (dk_at dksX8_init_5 7 rfl rfl)
theorem dX8_init_128 : decode cX8_init 128 = .ok (.iastore, 1) := dk_79 (dk_at dksX8_init_5 9 rfl rfl)
theorem dX8_init_129 : decode cX8_init 129 = .ok (.dup, 1) := dk_89 (dk_at dksX8_init_5 10 rfl rfl)
theorem dX8_init_130 : decode cX8_init 130 = .ok (.iconst 2, 1) := dk_5 (dk_at dksX8_init_5 11 rfl rfl)
theorem dX8_init_131 : decode cX8_init 131 = .ok (.bipush 60, 2) := dk_16 60 (dk_at dksX8_init_5 12 rfl rfl)
theorem dX8_init_133 : decode cX8_init 133 = .ok (.iastore, 1) := dk_79 (dk_at dksX8_init_5 14 rfl rfl)
theorem dX8_init_134 : decode cX8_init 134 = .ok (.putfield 37, 3) := dk_181 0 37 (dk_at dksX8_init_5 15 rfl rfl)
theorem dX8_init_137 : decode cX8_init 137 = .ok (.aload_n 0, 1) := dk_42 (dk_at dksX8_init_5 18 rfl rfl)
theorem dX8_init_138 : decode cX8_init 138 = .ok (.iconst 3, 1) := dk_6 (dk_at dksX8_init_5 19 rfl rfl)
theorem dX8_init_139 : decode cX8_init 139 = .ok (.newarray .int, 2) := dk_188_10 (dk_at dksX8_init_5 20 rfl rfl)
theorem dX8_init_141 : decode cX8_init 141 = .ok (.putfield 40, 3) := dk_181 0 40 (dk_at dksX8_init_6 0 rfl rfl)
theorem dX8_init_144 : decode cX8_init 144 = .ok (.aload_n 0, 1) := dk_42 (dk_at dksX8_init_6 3 rfl rfl)
theorem dX8_init_145 : decode cX8_init 145 = .ok (.iconst 3, 1) := dk_6 (dk_at dksX8_init_6 4 rfl rfl)
theorem dX8_init_146 : decode cX8_init 146 = .ok (.newarray .boolean, 2) := dk_188_4 (dk_at dksX8_init_6 5 rfl rfl)
theorem dX8_init_148 : decode cX8_init 148 = .ok (.putfield 43, 3) := dk_181 0 43 (dk_at dksX8_init_6 7 rfl rfl)
theorem dX8_init_151 : decode cX8_init 151 = .ok (.aload_n 0, 1) := dk_42 (dk_at dksX8_init_6 10 rfl rfl)
theorem dX8_init_152 : decode cX8_init 152 = .ok (.iconst 3, 1) := dk_6 (dk_at dksX8_init_6 11 rfl rfl)
theorem dX8_init_153 : decode cX8_init 153 = .ok (.newarray .int, 2) := dk_188_10 (dk_at dksX8_init_6 12 rfl rfl)
theorem dX8_init_155 : decode cX8_init 155 = .ok (.putfield 47, 3) := dk_181 0 47 (dk_at dksX8_init_6 14 rfl rfl)
theorem dX8_init_158 : decode cX8_init 158 = .ok (.aload_n 0, 1) := dk_42 (dk_at dksX8_init_6 17 rfl rfl)
theorem dX8_init_159 : decode cX8_init 159 = .ok (.iconst 3, 1) := dk_6 (dk_at dksX8_init_6 18 rfl rfl)
theorem dX8_init_160 : decode cX8_init 160 = .ok (.newarray .int, 2) := dk_188_10 (dk_at dksX8_init_6 19 rfl rfl)
theorem dX8_init_162 : decode cX8_init 162 = .ok (.putfield 50, 3) := dk_181 0 50 (dk_at dksX8_init_6 21 rfl rfl)
theorem dX8_init_165 : decode cX8_init 165 = .ok (.aload_n 0, 1) := dk_42 (dk_at dksX8_init_7 0 rfl rfl)
theorem dX8_init_166 : decode cX8_init 166 = .ok (.iconst 3, 1) := dk_6 (dk_at dksX8_init_7 1 rfl rfl)
theorem dX8_init_167 : decode cX8_init 167 = .ok (.newarray .int, 2) := dk_188_10 (dk_at dksX8_init_7 2 rfl rfl)
theorem dX8_init_169 : decode cX8_init 169 = .ok (.dup, 1) := dk_89 (dk_at dksX8_init_7 4 rfl rfl)
theorem dX8_init_170 : decode cX8_init 170 = .ok (.iconst 0, 1) := dk_3 (dk_at dksX8_init_7 5 rfl rfl)
theorem dX8_init_171 : decode cX8_init 171 = .ok (.iconst 5, 1) := dk_8 (dk_at dksX8_init_7 6 rfl rfl)
theorem dX8_init_172 : decode cX8_init 172 = .ok (.iastore, 1) := dk_79 (dk_at dksX8_init_7 7 rfl rfl)
theorem dX8_init_173 : decode cX8_init 173 = .ok (.dup, 1) := dk_89 (dk_at dksX8_init_7 8 rfl rfl)
theorem dX8_init_174 : decode cX8_init 174 = .ok (.iconst 1, 1) := dk_4 (dk_at dksX8_init_7 9 rfl rfl)
theorem dX8_init_175 : decode cX8_init 175 = .ok (.iconst 1, 1) := dk_4 (dk_at dksX8_init_7 10 rfl rfl)
theorem dX8_init_176 : decode cX8_init 176 = .ok (.iastore, 1) := dk_79 (dk_at dksX8_init_7 11 rfl rfl)
theorem dX8_init_177 : decode cX8_init 177 = .ok (.dup, 1) := dk_89 (dk_at dksX8_init_7 12 rfl rfl)
theorem dX8_init_178 : decode cX8_init 178 = .ok (.iconst 2, 1) := dk_5 (dk_at dksX8_init_7 13 rfl rfl)
theorem dX8_init_179 : decode cX8_init 179 = .ok (.iconst 3, 1) := dk_6 (dk_at dksX8_init_7 14 rfl rfl)
theorem dX8_init_180 : decode cX8_init 180 = .ok (.iastore, 1) := dk_79 (dk_at dksX8_init_7 15 rfl rfl)
theorem dX8_init_181 : decode cX8_init 181 = .ok (.putfield 53, 3) := dk_181 0 53 (dk_at dksX8_init_7 16 rfl rfl)
theorem dX8_init_184 : decode cX8_init 184 = .ok (.aload_n 0, 1) := dk_42 (dk_at dksX8_init_7 19 rfl rfl)
theorem dX8_init_185 : decode cX8_init 185 = .ok (.iconst 3, 1) := dk_6 (dk_at dksX8_init_7 20 rfl rfl)
theorem dX8_init_186 : decode cX8_init 186 = .ok (.newarray .int, 2) := dk_188_10 (dk_at dksX8_init_7 21 rfl rfl)
theorem dX8_init_188 : decode cX8_init 188 = .ok (.dup, 1) := dk_89 (dk_at dksX8_init_7 23 rfl rfl)
theorem dX8_init_189 : decode cX8_init 189 = .ok (.iconst 0, 1) := dk_3 (dk_at dksX8_init_8 0 rfl rfl)
theorem dX8_init_190 : decode cX8_init 190 = .ok (.iconst 1, 1) := dk_4 (dk_at dksX8_init_8 1 rfl rfl)
theorem dX8_init_191 : decode cX8_init 191 = .ok (.iastore, 1) := dk_79 (dk_at dksX8_init_8 2 rfl rfl)
theorem dX8_init_192 : decode cX8_init 192 = .ok (.dup, 1) := dk_89 (dk_at dksX8_init_8 3 rfl rfl)
theorem dX8_init_193 : decode cX8_init 193 = .ok (.iconst 1, 1) := dk_4 (dk_at dksX8_init_8 4 rfl rfl)
theorem dX8_init_194 : decode cX8_init 194 = .ok (.iconst 1, 1) := dk_4 (dk_at dksX8_init_8 5 rfl rfl)
theorem dX8_init_195 : decode cX8_init 195 = .ok (.iastore, 1) := dk_79 (dk_at dksX8_init_8 6 rfl rfl)
theorem dX8_init_196 : decode cX8_init 196 = .ok (.dup, 1) := dk_89 (dk_at dksX8_init_8 7 rfl rfl)
theorem dX8_init_197 : decode cX8_init 197 = .ok (.iconst 2, 1) := dk_5 (dk_at dksX8_init_8 8 rfl rfl)
theorem dX8_init_198 : decode cX8_init 198 = .ok (.iconst 2, 1) := dk_5 (dk_at dksX8_init_8 9 rfl rfl)
theorem dX8_init_199 : decode cX8_init 199 = .ok (.iastore, 1) := dk_79 (dk_at dksX8_init_8 10 rfl rfl)
theorem dX8_init_200 : decode cX8_init 200 = .ok (.putfield 56, 3) := dk_181 0 56 (dk_at dksX8_init_8 11 rfl rfl)
theorem dX8_init_203 : decode cX8_init 203 = .ok (.aload_n 0, 1) := dk_42 (dk_at dksX8_init_8 14 rfl rfl)
theorem dX8_init_204 : decode cX8_init 204 = .ok (.bipush 6, 2) := dk_16 6 (dk_at dksX8_init_8 15 rfl rfl)
theorem dX8_init_206 : decode cX8_init 206 = .ok (.newarray .int, 2) := dk_188_10 (dk_at dksX8_init_8 17 rfl rfl)
theorem dX8_init_208 : decode cX8_init 208 = .ok (.putfield 59, 3) := dk_181 0 59 (dk_at dksX8_init_8 19 rfl rfl)
theorem dX8_init_211 : decode cX8_init 211 = .ok (.aload_n 0, 1) := dk_42 (dk_at dksX8_init_8 22 rfl rfl)
theorem dX8_init_212 : decode cX8_init 212 = .ok (.bipush 6, 2) := dk_16 6 (dk_at dksX8_init_9 0 rfl rfl)
theorem dX8_init_214 : decode cX8_init 214 = .ok (.newarray .int, 2) := dk_188_10 (dk_at dksX8_init_9 2 rfl rfl)
theorem dX8_init_216 : decode cX8_init 216 = .ok (.dup, 1) := dk_89 (dk_at dksX8_init_9 4 rfl rfl)
theorem dX8_init_217 : decode cX8_init 217 = .ok (.iconst 0, 1) := dk_3 (dk_at dksX8_init_9 5 rfl rfl)
theorem dX8_init_218 : decode cX8_init 218 = .ok (.bipush 10, 2) := dk_16 10 (dk_at dksX8_init_9 6 rfl rfl)
theorem dX8_init_220 : decode cX8_init 220 = .ok (.iastore, 1) := dk_79 (dk_at dksX8_init_9 8 rfl rfl)
theorem dX8_init_221 : decode cX8_init 221 = .ok (.dup, 1) := dk_89 (dk_at dksX8_init_9 9 rfl rfl)
theorem dX8_init_222 : decode cX8_init 222 = .ok (.iconst 1, 1) := dk_4 (dk_at dksX8_init_9 10 rfl rfl)
theorem dX8_init_223 : decode cX8_init 223 = .ok (.bipush 10, 2) := dk_16 10 (dk_at dksX8_init_9 11 rfl rfl)
theorem dX8_init_225 : decode cX8_init 225 = .ok (.iastore, 1) := dk_79 (dk_at dksX8_init_9 13 rfl rfl)
theorem dX8_init_226 : decode cX8_init 226 = .ok (.dup, 1) := dk_89 (dk_at dksX8_init_9 14 rfl rfl)
theorem dX8_init_227 : decode cX8_init 227 = .ok (.iconst 2, 1) := dk_5 (dk_at dksX8_init_9 15 rfl rfl)
theorem dX8_init_228 : decode cX8_init 228 = .ok (.bipush 10, 2) := dk_16 10 (dk_at dksX8_init_9 16 rfl rfl)
theorem dX8_init_230 : decode cX8_init 230 = .ok (.iastore, 1) := dk_79 (dk_at dksX8_init_9 18 rfl rfl)
theorem dX8_init_231 : decode cX8_init 231 = .ok (.dup, 1) := dk_89 (dk_at dksX8_init_9 19 rfl rfl)
theorem dX8_init_232 : decode cX8_init 232 = .ok (.iconst 3, 1) := dk_6 (dk_at dksX8_init_9 20 rfl rfl)
theorem dX8_init_233 : decode cX8_init 233 = .ok (.bipush 10, 2) := dk_16 10 (dk_at dksX8_init_9 21 rfl rfl)
theorem dX8_init_235 : decode cX8_init 235 = .ok (.iastore, 1) := dk_79 (dk_at dksX8_init_9 23 rfl rfl)
theorem dX8_init_236 : decode cX8_init 236 = .ok (.dup, 1) := dk_89 (dk_at dksX8_init_10 0 rfl rfl)
theorem dX8_init_237 : decode cX8_init 237 = .ok (.iconst 4, 1) := dk_7 (dk_at dksX8_init_10 1 rfl rfl)
theorem dX8_init_238 : decode cX8_init 238 = .ok (.bipush 10, 2) := dk_16 10 (dk_at dksX8_init_10 2 rfl rfl)
theorem dX8_init_240 : decode cX8_init 240 = .ok (.iastore, 1) := dk_79 (dk_at dksX8_init_10 4 rfl rfl)
theorem dX8_init_241 : decode cX8_init 241 = .ok (.dup, 1) := dk_89 (dk_at dksX8_init_10 5 rfl rfl)
theorem dX8_init_242 : decode cX8_init 242 = .ok (.iconst 5, 1) := dk_8 (dk_at dksX8_init_10 6 rfl rfl)
theorem dX8_init_243 : decode cX8_init 243 = .ok (.bipush 10, 2) := dk_16 10 (dk_at dksX8_init_10 7 rfl rfl)
theorem dX8_init_245 : decode cX8_init 245 = .ok (.iastore, 1) := dk_79 (dk_at dksX8_init_10 9 rfl rfl)
theorem dX8_init_246 : decode cX8_init 246 = .ok (.putfield 62, 3) := dk_181 0 62 (dk_at dksX8_init_10 10 rfl rfl)
theorem dX8_init_249 : decode cX8_init 249 = .ok (.aload_n 0, 1) := dk_42 (dk_at dksX8_init_10 13 rfl rfl)
theorem dX8_init_250 : decode cX8_init 250 = .ok (.iconst 3, 1) := dk_6 (dk_at dksX8_init_10 14 rfl rfl)
theorem dX8_init_251 : decode cX8_init 251 = .ok (.newarray .int, 2) := dk_188_10 (dk_at dksX8_init_10 15 rfl rfl)
theorem dX8_init_253 : decode cX8_init 253 = .ok (.putfield 65, 3) := dk_181 0 65 (dk_at dksX8_init_10 17 rfl rfl)
theorem dX8_init_256 : decode cX8_init 256 = .ok (.aload_n 0, 1) := dk_42 (dk_at dksX8_init_10 20 rfl rfl)
theorem dX8_init_257 : decode cX8_init 257 = .ok (.iconst 3, 1) := dk_6 (dk_at dksX8_init_10 21 rfl rfl)
theorem dX8_init_258 : decode cX8_init 258 = .ok (.newarray .int, 2) := dk_188_10 (dk_at dksX8_init_10 22 rfl rfl)
theorem dX8_init_260 : decode cX8_init 260 = .ok (.putfield 68, 3) := dk_181 0 68 (dk_at dksX8_init_11 0 rfl rfl)
theorem dX8_init_263 : decode cX8_init 263 = .ok (.aload_n 0, 1) := dk_42 (dk_at dksX8_init_11 3 rfl rfl)
theorem dX8_init_264 : decode cX8_init 264 = .ok (.iconst 3, 1) := dk_6 (dk_at dksX8_init_11 4 rfl rfl)
theorem dX8_init_265 : decode cX8_init 265 = .ok (.newarray .int, 2) := dk_188_10 (dk_at dksX8_init_11 5 rfl rfl)
theorem dX8_init_267 : decode cX8_init 267 = .ok (.putfield 71, 3) := dk_181 0 71 (dk_at dksX8_init_11 7 rfl rfl)
theorem dX8_init_270 : decode cX8_init 270 = .ok (.aload_n 0, 1) := dk_42 (dk_at dksX8_init_11 10 rfl rfl)
theorem dX8_init_271 : decode cX8_init 271 = .ok (.iconst 3, 1) := dk_6 (dk_at dksX8_init_11 11 rfl rfl)
theorem dX8_init_272 : decode cX8_init 272 = .ok (.newarray .int, 2) := dk_188_10 (dk_at dksX8_init_11 12 rfl rfl)
theorem dX8_init_274 : decode cX8_init 274 = .ok (.putfield 74, 3) := dk_181 0 74 (dk_at dksX8_init_11 14 rfl rfl)
theorem dX8_init_277 : decode cX8_init 277 = .ok (.aload_n 0, 1) := dk_42 (dk_at dksX8_init_11 17 rfl rfl)
theorem dX8_init_278 : decode cX8_init 278 = .ok (.iconst 3, 1) := dk_6 (dk_at dksX8_init_11 18 rfl rfl)
theorem dX8_init_279 : decode cX8_init 279 = .ok (.newarray .int, 2) := dk_188_10 (dk_at dksX8_init_11 19 rfl rfl)
theorem dX8_init_281 : decode cX8_init 281 = .ok (.putfield 77, 3) := dk_181 0 77 (dk_at dksX8_init_11 21 rfl rfl)
theorem dX8_init_284 : decode cX8_init 284 = .ok (.aload_n 0, 1) := dk_42 (dk_at dksX8_init_12 0 rfl rfl)
theorem dX8_init_285 : decode cX8_init 285 = .ok (.iconst 4, 1) := dk_7 (dk_at dksX8_init_12 1 rfl rfl)
theorem dX8_init_286 : decode cX8_init 286 = .ok (.newarray .int, 2) := dk_188_10 (dk_at dksX8_init_12 2 rfl rfl)
theorem dX8_init_288 : decode cX8_init 288 = .ok (.putfield 80, 3) := dk_181 0 80 (dk_at dksX8_init_12 4 rfl rfl)
theorem dX8_init_291 : decode cX8_init 291 = .ok (.aload_n 0, 1) := dk_42 (dk_at dksX8_init_12 7 rfl rfl)
theorem dX8_init_292 : decode cX8_init 292 = .ok (.iconst 4, 1) := dk_7 (dk_at dksX8_init_12 8 rfl rfl)
theorem dX8_init_293 : decode cX8_init 293 = .ok (.newarray .int, 2) := dk_188_10 (dk_at dksX8_init_12 9 rfl rfl)
theorem dX8_init_295 : decode cX8_init 295 = .ok (.putfield 83, 3) := dk_181 0 83 (dk_at dksX8_init_12 11 rfl rfl)
theorem dX8_init_298 : decode cX8_init 298 = .ok (.aload_n 0, 1) := dk_42 (dk_at dksX8_init_12 14 rfl rfl)
theorem dX8_init_299 : decode cX8_init 299 = .ok (.iconst 4, 1) := dk_7 (dk_at dksX8_init_12 15 rfl rfl)
theorem dX8_init_300 : decode cX8_init 300 = .ok (.newarray .int, 2) := dk_188_10 (dk_at dksX8_init_12 16 rfl rfl)
theorem dX8_init_302 : decode cX8_init 302 = .ok (.putfield 86, 3) := dk_181 0 86 (dk_at dksX8_init_12 18 rfl rfl)
theorem dX8_init_305 : decode cX8_init 305 = .ok (.aload_n 0, 1) := dk_42 (dk_at dksX8_init_12 21 rfl rfl)
theorem dX8_init_306 : decode cX8_init 306 = .ok (.iconst 4, 1) := dk_7 (dk_at dksX8_init_12 22 rfl rfl)
theorem dX8_init_307 : decode cX8_init 307 = .ok (.newarray .int, 2) := dk_188_10 (dk_at dksX8_init_13 0 rfl rfl)
theorem dX8_init_309 : decode cX8_init 309 = .ok (.putfield 89, 3) := dk_181 0 89 (dk_at dksX8_init_13 2 rfl rfl)
theorem dX8_init_312 : decode cX8_init 312 = .ok (.aload_n 0, 1) := dk_42 (dk_at dksX8_init_13 5 rfl rfl)
theorem dX8_init_313 : decode cX8_init 313 = .ok (.iconst 3, 1) := dk_6 (dk_at dksX8_init_13 6 rfl rfl)
theorem dX8_init_314 : decode cX8_init 314 = .ok (.newarray .int, 2) := dk_188_10 (dk_at dksX8_init_13 7 rfl rfl)
theorem dX8_init_316 : decode cX8_init 316 = .ok (.putfield 92, 3) := dk_181 0 92 (dk_at dksX8_init_13 9 rfl rfl)
theorem dX8_init_319 : decode cX8_init 319 = .ok (.aload_n 0, 1) := dk_42 (dk_at dksX8_init_13 12 rfl rfl)
theorem dX8_init_320 : decode cX8_init 320 = .ok (.iconst 3, 1) := dk_6 (dk_at dksX8_init_13 13 rfl rfl)
theorem dX8_init_321 : decode cX8_init 321 = .ok (.newarray .int, 2) := dk_188_10 (dk_at dksX8_init_13 14 rfl rfl)
theorem dX8_init_323 : decode cX8_init 323 = .ok (.putfield 95, 3) := dk_181 0 95 (dk_at dksX8_init_13 16 rfl rfl)
theorem dX8_init_326 : decode cX8_init 326 = .ok (.aload_n 0, 1) := dk_42 (dk_at dksX8_init_13 19 rfl rfl)
theorem dX8_init_327 : decode cX8_init 327 = .ok (.bipush 40, 2) := dk_16 40 (dk_at dksX8_init_13 20 rfl rfl)
theorem dX8_init_329 : decode cX8_init 329 = .ok (.putfield 98, 3) := dk_181 0 98 (dk_at dksX8_init_14 0 rfl rfl)
theorem dX8_init_332 : decode cX8_init 332 = .ok (.aload_n 0, 1) := dk_42 (dk_at dksX8_init_14 3 rfl rfl)
theorem dX8_init_333 : decode cX8_init 333 = .ok (.bipush 6, 2) := dk_16 6 (dk_at dksX8_init_14 4 rfl rfl)
theorem dX8_init_335 : decode cX8_init 335 = .ok (.newarray .int, 2) := dk_188_10 (dk_at dksX8_init_14 6 rfl rfl)
theorem dX8_init_337 : decode cX8_init 337 = .ok (.putfield 102, 3) := dk_181 0 102 (dk_at dksX8_init_14 8 rfl rfl)
theorem dX8_init_340 : decode cX8_init 340 = .ok (.aload_n 0, 1) := dk_42 (dk_at dksX8_init_14 11 rfl rfl)
theorem dX8_init_341 : decode cX8_init 341 = .ok (.bipush 6, 2) := dk_16 6 (dk_at dksX8_init_14 12 rfl rfl)
theorem dX8_init_343 : decode cX8_init 343 = .ok (.newarray .int, 2) := dk_188_10 (dk_at dksX8_init_14 14 rfl rfl)
theorem dX8_init_345 : decode cX8_init 345 = .ok (.putfield 105, 3) := dk_181 0 105 (dk_at dksX8_init_14 16 rfl rfl)
theorem dX8_init_348 : decode cX8_init 348 = .ok (.aload_n 0, 1) := dk_42 (dk_at dksX8_init_14 19 rfl rfl)
theorem dX8_init_349 : decode cX8_init 349 = .ok (.bipush 6, 2) := dk_16 6 (dk_at dksX8_init_14 20 rfl rfl)
theorem dX8_init_351 : decode cX8_init 351 = .ok (.newarray .int, 2) := dk_188_10 (dk_at dksX8_init_14 22 rfl rfl)
theorem dX8_init_353 : decode cX8_init 353 = .ok (.putfield 108, 3) := dk_181 0 108 (dk_at dksX8_init_15 0 rfl rfl)
theorem dX8_init_356 : decode cX8_init 356 = .ok (.aload_n 0, 1) := dk_42 (dk_at dksX8_init_15 3 rfl rfl)
theorem dX8_init_357 : decode cX8_init 357 = .ok (.bipush 6, 2) := dk_16 6 (dk_at dksX8_init_15 4 rfl rfl)
theorem dX8_init_359 : decode cX8_init 359 = .ok (.newarray .int, 2) := dk_188_10 (dk_at dksX8_init_15 6 rfl rfl)
theorem dX8_init_361 : decode cX8_init 361 = .ok (.putfield 111, 3) := dk_181 0 111 (dk_at dksX8_init_15 8 rfl rfl)
theorem dX8_init_364 : decode cX8_init 364 = .ok (.aload_n 0, 1) := dk_42 (dk_at dksX8_init_15 11 rfl rfl)
theorem dX8_init_365 : decode cX8_init 365 = .ok (.bipush 6, 2) := dk_16 6 (dk_at dksX8_init_15 12 rfl rfl)
theorem dX8_init_367 : decode cX8_init 367 = .ok (.newarray .int, 2) := dk_188_10 (dk_at dksX8_init_15 14 rfl rfl)
theorem dX8_init_369 : decode cX8_init 369 = .ok (.putfield 114, 3) := dk_181 0 114 (dk_at dksX8_init_15 16 rfl rfl)
theorem dX8_init_372 : decode cX8_init 372 = .ok (.aload_n 0, 1) := dk_42 (dk_at dksX8_init_15 19 rfl rfl)
theorem dX8_init_373 : decode cX8_init 373 = .ok (.bipush 6, 2) := dk_16 6 (dk_at dksX8_init_15 20 rfl rfl)
theorem dX8_init_375 : decode cX8_init 375 = .ok (.newarray .int, 2) := dk_188_10 (dk_at dksX8_init_15 22 rfl rfl)
theorem dX8_init_377 : decode cX8_init 377 = .ok (.putfield 117, 3) := dk_181 0 117 (dk_at dksX8_init_16 0 rfl rfl)
theorem dX8_init_380 : decode cX8_init 380 = .ok (.aload_n 0, 1) := dk_42 (dk_at dksX8_init_16 3 rfl rfl)
theorem dX8_init_381 : decode cX8_init 381 = .ok (.bipush 72, 2) := dk_16 72 (dk_at dksX8_init_16 4 rfl rfl)
theorem dX8_init_383 : decode cX8_init 383 = .ok (.newarray .int, 2) := dk_188_10 (dk_at dksX8_init_16 6 rfl rfl)
theorem dX8_init_385 : decode cX8_init 385 = .ok (.putfield 120, 3) := dk_181 0 120 (dk_at dksX8_init_16 8 rfl rfl)
theorem dX8_init_388 : decode cX8_init 388 = .ok (.aload_n 0, 1) := dk_42 (dk_at dksX8_init_16 11 rfl rfl)
theorem dX8_init_389 : decode cX8_init 389 = .ok (.sipush 288, 3) := dk_17 1 32 (dk_at dksX8_init_16 12 rfl rfl)
theorem dX8_init_392 : decode cX8_init 392 = .ok (.newarray .int, 2) := dk_188_10 (dk_at dksX8_init_16 15 rfl rfl)
theorem dX8_init_394 : decode cX8_init 394 = .ok (.putfield 123, 3) := dk_181 0 123 (dk_at dksX8_init_16 17 rfl rfl)
theorem dX8_init_397 : decode cX8_init 397 = .ok (.aload_n 0, 1) := dk_42 (dk_at dksX8_init_16 20 rfl rfl)
theorem dX8_init_398 : decode cX8_init 398 = .ok (.bipush 6, 2) := dk_16 6 (dk_at dksX8_init_16 21 rfl rfl)
theorem dX8_init_400 : decode cX8_init 400 = .ok (.newarray .int, 2) := dk_188_10 (dk_at dksX8_init_17 0 rfl rfl)
theorem dX8_init_402 : decode cX8_init 402 = .ok (.putfield 126, 3) := dk_181 0 126 (dk_at dksX8_init_17 2 rfl rfl)
theorem dX8_init_405 : decode cX8_init 405 = .ok (.aload_n 0, 1) := dk_42 (dk_at dksX8_init_17 5 rfl rfl)
theorem dX8_init_406 : decode cX8_init 406 = .ok (.bipush 24, 2) := dk_16 24 (dk_at dksX8_init_17 6 rfl rfl)
theorem dX8_init_408 : decode cX8_init 408 = .ok (.newarray .int, 2) := dk_188_10 (dk_at dksX8_init_17 8 rfl rfl)
theorem dX8_init_410 : decode cX8_init 410 = .ok (.putfield 129, 3) := dk_181 0 129 (dk_at dksX8_init_17 10 rfl rfl)
theorem dX8_init_413 : decode cX8_init 413 = .ok (.aload_n 0, 1) := dk_42 (dk_at dksX8_init_17 13 rfl rfl)
theorem dX8_init_414 : decode cX8_init 414 = .ok (.bipush 24, 2) := dk_16 24 (dk_at dksX8_init_17 14 rfl rfl)
theorem dX8_init_416 : decode cX8_init 416 = .ok (.newarray .int, 2) := dk_188_10 (dk_at dksX8_init_17 16 rfl rfl)
theorem dX8_init_418 : decode cX8_init 418 = .ok (.putfield 132, 3) := dk_181 0 132 (dk_at dksX8_init_17 18 rfl rfl)
theorem dX8_init_421 : decode cX8_init 421 = .ok (.aload_n 0, 1) := dk_42 (dk_at dksX8_init_17 21 rfl rfl)
theorem dX8_init_422 : decode cX8_init 422 = .ok (.bipush 24, 2) := dk_16 24 (dk_at dksX8_init_17 22 rfl rfl)
theorem dX8_init_424 : decode cX8_init 424 = .ok (.newarray .int, 2) := dk_188_10 (dk_at dksX8_init_18 0 rfl rfl)
theorem dX8_init_426 : decode cX8_init 426 = .ok (.putfield 135, 3) := dk_181 0 135 (dk_at dksX8_init_18 2 rfl rfl)
theorem dX8_init_429 : decode cX8_init 429 = .ok (.aload_n 0, 1) := dk_42 (dk_at dksX8_init_18 5 rfl rfl)
theorem dX8_init_430 : decode cX8_init 430 = .ok (.iconst 3, 1) := dk_6 (dk_at dksX8_init_18 6 rfl rfl)
theorem dX8_init_431 : decode cX8_init 431 = .ok (.newarray .boolean, 2) := dk_188_4 (dk_at dksX8_init_18 7 rfl rfl)
theorem dX8_init_433 : decode cX8_init 433 = .ok (.putfield 138, 3) := dk_181 0 138 (dk_at dksX8_init_18 9 rfl rfl)
theorem dX8_init_436 : decode cX8_init 436 = .ok (.aload_n 0, 1) := dk_42 (dk_at dksX8_init_18 12 rfl rfl)
theorem dX8_init_437 : decode cX8_init 437 = .ok (.iconst 3, 1) := dk_6 (dk_at dksX8_init_18 13 rfl rfl)
theorem dX8_init_438 : decode cX8_init 438 = .ok (.newarray .int, 2) := dk_188_10 (dk_at dksX8_init_18 14 rfl rfl)
theorem dX8_init_440 : decode cX8_init 440 = .ok (.putfield 141, 3) := dk_181 0 141 (dk_at dksX8_init_18 16 rfl rfl)
theorem dX8_init_443 : decode cX8_init 443 = .ok (.aload_n 0, 1) := dk_42 (dk_at dksX8_init_18 19 rfl rfl)
theorem dX8_init_444 : decode cX8_init 444 = .ok (.bipush 36, 2) := dk_16 36 (dk_at dksX8_init_18 20 rfl rfl)
theorem dX8_init_446 : decode cX8_init 446 = .ok (.newarray .int, 2) := dk_188_10 (dk_at dksX8_init_18 22 rfl rfl)
theorem dX8_init_448 : decode cX8_init 448 = .ok (.putfield 144, 3) := dk_181 0 144 (dk_at dksX8_init_19 0 rfl rfl)
theorem dX8_init_451 : decode cX8_init 451 = .ok (.aload_n 0, 1) := dk_42 (dk_at dksX8_init_19 3 rfl rfl)
theorem dX8_init_452 : decode cX8_init 452 = .ok (.sipush 144, 3) := dk_17 0 144 (dk_at dksX8_init_19 4 rfl rfl)
theorem dX8_init_455 : decode cX8_init 455 = .ok (.newarray .int, 2) := dk_188_10 (dk_at dksX8_init_19 7 rfl rfl)
theorem dX8_init_457 : decode cX8_init 457 = .ok (.putfield 147, 3) := dk_181 0 147 (dk_at dksX8_init_19 9 rfl rfl)
theorem dX8_init_460 : decode cX8_init 460 = .ok (.aload_n 0, 1) := dk_42 (dk_at dksX8_init_19 12 rfl rfl)
theorem dX8_init_461 : decode cX8_init 461 = .ok (.iconst 3, 1) := dk_6 (dk_at dksX8_init_19 13 rfl rfl)
theorem dX8_init_462 : decode cX8_init 462 = .ok (.newarray .int, 2) := dk_188_10 (dk_at dksX8_init_19 14 rfl rfl)
theorem dX8_init_464 : decode cX8_init 464 = .ok (.putfield 150, 3) := dk_181 0 150 (dk_at dksX8_init_19 16 rfl rfl)
theorem dX8_init_467 : decode cX8_init 467 = .ok (.aload_n 0, 1) := dk_42 (dk_at dksX8_init_19 19 rfl rfl)
theorem dX8_init_468 : decode cX8_init 468 = .ok (.iconst 3, 1) := dk_6 (dk_at dksX8_init_19 20 rfl rfl)
theorem dX8_init_469 : decode cX8_init 469 = .ok (.newarray .int, 2) := dk_188_10 (dk_at dksX8_init_19 21 rfl rfl)
theorem dX8_init_471 : decode cX8_init 471 = .ok (.putfield 153, 3) := dk_181 0 153 (dk_at dksX8_init_20 0 rfl rfl)
theorem dX8_init_474 : decode cX8_init 474 = .ok (.aload_n 0, 1) := dk_42 (dk_at dksX8_init_20 3 rfl rfl)
theorem dX8_init_475 : decode cX8_init 475 = .ok (.bipush 12, 2) := dk_16 12 (dk_at dksX8_init_20 4 rfl rfl)
theorem dX8_init_477 : decode cX8_init 477 = .ok (.newarray .int, 2) := dk_188_10 (dk_at dksX8_init_20 6 rfl rfl)
theorem dX8_init_479 : decode cX8_init 479 = .ok (.putfield 156, 3) := dk_181 0 156 (dk_at dksX8_init_20 8 rfl rfl)
theorem dX8_init_482 : decode cX8_init 482 = .ok (.aload_n 0, 1) := dk_42 (dk_at dksX8_init_20 11 rfl rfl)
theorem dX8_init_483 : decode cX8_init 483 = .ok (.iconst 3, 1) := dk_6 (dk_at dksX8_init_20 12 rfl rfl)
theorem dX8_init_484 : decode cX8_init 484 = .ok (.newarray .int, 2) := dk_188_10 (dk_at dksX8_init_20 13 rfl rfl)
theorem dX8_init_486 : decode cX8_init 486 = .ok (.putfield 159, 3) := dk_181 0 159 (dk_at dksX8_init_20 15 rfl rfl)
theorem dX8_init_489 : decode cX8_init 489 = .ok (.aload_n 0, 1) := dk_42 (dk_at dksX8_init_20 18 rfl rfl)
theorem dX8_init_490 : decode cX8_init 490 = .ok (.sipush 144, 3) := dk_17 0 144 (dk_at dksX8_init_20 19 rfl rfl)
theorem dX8_init_493 : decode cX8_init 493 = .ok (.newarray .int, 2) := dk_188_10 (dk_at dksX8_init_20 22 rfl rfl)
theorem dX8_init_495 : decode cX8_init 495 = .ok (.putfield 162, 3) := dk_181 0 162 (dk_at dksX8_init_21 0 rfl rfl)
theorem dX8_init_498 : decode cX8_init 498 = .ok (.aload_n 0, 1) := dk_42 (dk_at dksX8_init_21 3 rfl rfl)
theorem dX8_init_499 : decode cX8_init 499 = .ok (.iconst 3, 1) := dk_6 (dk_at dksX8_init_21 4 rfl rfl)
theorem dX8_init_500 : decode cX8_init 500 = .ok (.newarray .int, 2) := dk_188_10 (dk_at dksX8_init_21 5 rfl rfl)
theorem dX8_init_502 : decode cX8_init 502 = .ok (.putfield 165, 3) := dk_181 0 165 (dk_at dksX8_init_21 7 rfl rfl)
theorem dX8_init_505 : decode cX8_init 505 = .ok (.aload_n 0, 1) := dk_42 (dk_at dksX8_init_21 10 rfl rfl)
theorem dX8_init_506 : decode cX8_init 506 = .ok (.bipush 120, 2) := dk_16 120 (dk_at dksX8_init_21 11 rfl rfl)
theorem dX8_init_508 : decode cX8_init 508 = .ok (.newarray .int, 2) := dk_188_10 (dk_at dksX8_init_21 13 rfl rfl)
theorem dX8_init_510 : decode cX8_init 510 = .ok (.putfield 168, 3) := dk_181 0 168 (dk_at dksX8_init_21 15 rfl rfl)
theorem dX8_init_513 : decode cX8_init 513 = .ok (.aload_n 0, 1) := dk_42 (dk_at dksX8_init_21 18 rfl rfl)
theorem dX8_init_514 : decode cX8_init 514 = .ok (.bipush 12, 2) := dk_16 12 (dk_at dksX8_init_21 19 rfl rfl)
theorem dX8_init_516 : decode cX8_init 516 = .ok (.newarray .int, 2) := dk_188_10 (dk_at dksX8_init_21 21 rfl rfl)
theorem dX8_init_518 : decode cX8_init 518 = .ok (.putfield 171, 3) := dk_181 0 171 (dk_at dksX8_init_22 0 rfl rfl)
theorem dX8_init_521 : decode cX8_init 521 = .ok (.aload_n 0, 1) := dk_42 (dk_at dksX8_init_22 3 rfl rfl)
theorem dX8_init_522 : decode cX8_init 522 = .ok (.bipush 12, 2) := dk_16 12 (dk_at dksX8_init_22 4 rfl rfl)
theorem dX8_init_524 : decode cX8_init 524 = .ok (.newarray .int, 2) := dk_188_10 (dk_at dksX8_init_22 6 rfl rfl)
theorem dX8_init_526 : decode cX8_init 526 = .ok (.putfield 174, 3) := dk_181 0 174 (dk_at dksX8_init_22 8 rfl rfl)
theorem dX8_init_529 : decode cX8_init 529 = .ok (.aload_n 0, 1) := dk_42 (dk_at dksX8_init_22 11 rfl rfl)
theorem dX8_init_530 : decode cX8_init 530 = .ok (.bipush 12, 2) := dk_16 12 (dk_at dksX8_init_22 12 rfl rfl)
theorem dX8_init_532 : decode cX8_init 532 = .ok (.newarray .int, 2) := dk_188_10 (dk_at dksX8_init_22 14 rfl rfl)
theorem dX8_init_534 : decode cX8_init 534 = .ok (.putfield 177, 3) := dk_181 0 177 (dk_at dksX8_init_22 16 rfl rfl)
theorem dX8_init_537 : decode cX8_init 537 = .ok (.aload_n 0, 1) := dk_42 (dk_at dksX8_init_22 19 rfl rfl)
theorem dX8_init_538 : decode cX8_init 538 = .ok (.bipush 120, 2) := dk_16 120 (dk_at dksX8_init_22 20 rfl rfl)
theorem dX8_init_540 : decode cX8_init 540 = .ok (.newarray .int, 2) := dk_188_10 (dk_at dksX8_init_22 22 rfl rfl)
theorem dX8_init_542 : decode cX8_init 542 = .ok (.putfield 180, 3) := dk_181 0 180 (dk_at dksX8_init_23 0 rfl rfl)
theorem dX8_init_545 : decode cX8_init 545 = .ok (.aload_n 0, 1) := dk_42 (dk_at dksX8_init_23 3 rfl rfl)
theorem dX8_init_546 : decode cX8_init 546 = .ok (.iconst (-1), 1) := dk_2 (dk_at dksX8_init_23 4 rfl rfl)
theorem dX8_init_547 : decode cX8_init 547 = .ok (.putfield 183, 3) := dk_181 0 183 (dk_at dksX8_init_23 5 rfl rfl)
theorem dX8_init_550 : decode cX8_init 550 = .ok (.aload_n 0, 1) := dk_42 (dk_at dksX8_init_23 8 rfl rfl)
theorem dX8_init_551 : decode cX8_init 551 = .ok (.iconst 3, 1) := dk_6 (dk_at dksX8_init_23 9 rfl rfl)
theorem dX8_init_552 : decode cX8_init 552 = .ok (.newarray .int, 2) := dk_188_10 (dk_at dksX8_init_23 10 rfl rfl)
theorem dX8_init_554 : decode cX8_init 554 = .ok (.putfield 186, 3) := dk_181 0 186 (dk_at dksX8_init_23 12 rfl rfl)
theorem dX8_init_557 : decode cX8_init 557 = .ok (.aload_n 0, 1) := dk_42 (dk_at dksX8_init_23 15 rfl rfl)
theorem dX8_init_558 : decode cX8_init 558 = .ok (.iconst 4, 1) := dk_7 (dk_at dksX8_init_23 16 rfl rfl)
theorem dX8_init_559 : decode cX8_init 559 = .ok (.newarray .int, 2) := dk_188_10 (dk_at dksX8_init_23 17 rfl rfl)
theorem dX8_init_561 : decode cX8_init 561 = .ok (.putfield 189, 3) := dk_181 0 189 (dk_at dksX8_init_23 19 rfl rfl)
theorem dX8_init_564 : decode cX8_init 564 = .ok (.aload_n 0, 1) := dk_42 (dk_at dksX8_init_23 22 rfl rfl)
theorem dX8_init_565 : decode cX8_init 565 = .ok (.iconst 4, 1) := dk_7 (dk_at dksX8_init_23 23 rfl rfl)
theorem dX8_init_566 : decode cX8_init 566 = .ok (.newarray .int, 2) := dk_188_10 (dk_at dksX8_init_24 0 rfl rfl)
theorem dX8_init_568 : decode cX8_init 568 = .ok (.putfield 192, 3) := dk_181 0 192 (dk_at dksX8_init_24 2 rfl rfl)
theorem dX8_init_571 : decode cX8_init 571 = .ok (.aload_n 0, 1) := dk_42 (dk_at dksX8_init_24 5 rfl rfl)
theorem dX8_init_572 : decode cX8_init 572 = .ok (.iconst 4, 1) := dk_7 (dk_at dksX8_init_24 6 rfl rfl)
theorem dX8_init_573 : decode cX8_init 573 = .ok (.newarray .int, 2) := dk_188_10 (dk_at dksX8_init_24 7 rfl rfl)
theorem dX8_init_575 : decode cX8_init 575 = .ok (.putfield 195, 3) := dk_181 0 195 (dk_at dksX8_init_24 9 rfl rfl)
theorem dX8_init_578 : decode cX8_init 578 = .ok (.aload_n 0, 1) := dk_42 (dk_at dksX8_init_24 12 rfl rfl)
theorem dX8_init_579 : decode cX8_init 579 = .ok (.iconst 4, 1) := dk_7 (dk_at dksX8_init_24 13 rfl rfl)
theorem dX8_init_580 : decode cX8_init 580 = .ok (.newarray .int, 2) := dk_188_10 (dk_at dksX8_init_24 14 rfl rfl)
theorem dX8_init_582 : decode cX8_init 582 = .ok (.putfield 198, 3) := dk_181 0 198 (dk_at dksX8_init_24 16 rfl rfl)
theorem dX8_init_585 : decode cX8_init 585 = .ok (.aload_n 0, 1) := dk_42 (dk_at dksX8_init_24 19 rfl rfl)
theorem dX8_init_586 : decode cX8_init 586 = .ok (.iconst 4, 1) := dk_7 (dk_at dksX8_init_24 20 rfl rfl)
theorem dX8_init_587 : decode cX8_init 587 = .ok (.newarray .int, 2) := dk_188_10 (dk_at dksX8_init_24 21 rfl rfl)
theorem dX8_init_589 : decode cX8_init 589 = .ok (.putfield 201, 3) := dk_181 0 201 (dk_at dksX8_init_25 0 rfl rfl)
theorem dX8_init_592 : decode cX8_init 592 = .ok (.aload_n 0, 1) := dk_42 (dk_at dksX8_init_25 3 rfl rfl)
theorem dX8_init_593 : decode cX8_init 593 = .ok (.iconst 4, 1) := dk_7 (dk_at dksX8_init_25 4 rfl rfl)
theorem dX8_init_594 : decode cX8_init 594 = .ok (.newarray .int, 2) := dk_188_10 (dk_at dksX8_init_25 5 rfl rfl)
theorem dX8_init_596 : decode cX8_init 596 = .ok (.putfield 204, 3) := dk_181 0 204 (dk_at dksX8_init_25 7 rfl rfl)
theorem dX8_init_599 : decode cX8_init 599 = .ok (.aload_n 0, 1) := dk_42 (dk_at dksX8_init_25 10 rfl rfl)
theorem dX8_init_600 : decode cX8_init 600 = .ok (.iconst 4, 1) := dk_7 (dk_at dksX8_init_25 11 rfl rfl)
theorem dX8_init_601 : decode cX8_init 601 = .ok (.newarray .int, 2) := dk_188_10 (dk_at dksX8_init_25 12 rfl rfl)
theorem dX8_init_603 : decode cX8_init 603 = .ok (.putfield 207, 3) := dk_181 0 207 (dk_at dksX8_init_25 14 rfl rfl)
theorem dX8_init_606 : decode cX8_init 606 = .ok (.aload_n 0, 1) := dk_42 (dk_at dksX8_init_25 17 rfl rfl)
theorem dX8_init_607 : decode cX8_init 607 = .ok (.bipush 16, 2) := dk_16 16 (dk_at dksX8_init_25 18 rfl rfl)
theorem dX8_init_609 : decode cX8_init 609 = .ok (.newarray .int, 2) := dk_188_10 (dk_at dksX8_init_25 20 rfl rfl)
theorem dX8_init_611 : decode cX8_init 611 = .ok (.putfield 210, 3) := dk_181 0 210 (dk_at dksX8_init_26 0 rfl rfl)
theorem dX8_init_614 : decode cX8_init 614 = .ok (.return_, 1) := dk_177 (dk_at dksX8_init_26 3 rfl rfl)
abbrev cX8_thrown : ByteArray := prog_20_method_2_code
def yX8_thrown : MethodName := ⟨RX8, "thrown", "()I"⟩
theorem dX8_thrown_0 : decode cX8_thrown 0 = .ok (.aload_n 0, 1) := by decide +kernel
theorem dX8_thrown_1 : decode cX8_thrown 1 = .ok (.getfield 213, 3) := by decide +kernel
theorem dX8_thrown_4 : decode cX8_thrown 4 = .ok (.ireturn, 1) := by decide +kernel
abbrev cX8_add : ByteArray := prog_20_method_19_code
def yX8_add : MethodName := ⟨RX8, "add", "(IIIII)I"⟩
def dkwX8_add_2 : List UInt8 := [182, 1, 21, 172]
abbrev dktX8_add_2 : List UInt8 := dkwX8_add_2 ++ []
def dkwX8_add_1 : List UInt8 := [181, 0, 213, 42, 180, 0, 213, 158, 0, 7, 3, 167, 0, 14, 42, 27, 28, 29, 21, 4, 21, 5]
abbrev dktX8_add_1 : List UInt8 := dkwX8_add_1 ++ dktX8_add_2
def dkwX8_add_0 : List UInt8 := [42, 27, 184, 1, 14, 154, 0, 7, 4, 167, 0, 14, 42, 27, 28, 29, 21, 4, 21, 5, 182, 1, 17]
abbrev dktX8_add_0 : List UInt8 := dkwX8_add_0 ++ dktX8_add_1
theorem dksX8_add_0 : cX8_add.data.toList.drop 0 = dktX8_add_0 := by decide +kernel
theorem dksX8_add_1 : cX8_add.data.toList.drop 23 = dktX8_add_1 := dk_seg dksX8_add_0 23 rfl rfl
theorem dksX8_add_2 : cX8_add.data.toList.drop 45 = dktX8_add_2 := dk_seg dksX8_add_1 22 rfl rfl
theorem dX8_add_0 : decode cX8_add 0 = .ok (.aload_n 0, 1) := dk_42 (dk_at dksX8_add_0 0 rfl rfl)
theorem dX8_add_1 : decode cX8_add 1 = .ok (.iload_n 1, 1) := dk_27 (dk_at dksX8_add_0 1 rfl rfl)
theorem dX8_add_2 : decode cX8_add 2 = .ok (.invokestatic 270, 3) := dk_184 1 14 (dk_at dksX8_add_0 2 rfl rfl)
theorem dX8_add_5 : decode cX8_add 5 = .ok (.ifCond .ne 7, 3) := dk_154 0 7 (dk_at dksX8_add_0 5 rfl rfl)
theorem dX8_add_8 : decode cX8_add 8 = .ok (.iconst 1, 1) := dk_4 (dk_at dksX8_add_0 8 rfl rfl)
theorem dX8_add_9 : decode cX8_add 9 = .ok (.goto 14, 3) := dk_167 0 14 (dk_at dksX8_add_0 9 rfl rfl)
theorem dX8_add_12 : decode cX8_add 12 = .ok (.aload_n 0, 1) := dk_42 (dk_at dksX8_add_0 12 rfl rfl)
theorem dX8_add_13 : decode cX8_add 13 = .ok (.iload_n 1, 1) := dk_27 (dk_at dksX8_add_0 13 rfl rfl)
theorem dX8_add_14 : decode cX8_add 14 = .ok (.iload_n 2, 1) := dk_28 (dk_at dksX8_add_0 14 rfl rfl)
theorem dX8_add_15 : decode cX8_add 15 = .ok (.iload_n 3, 1) := dk_29 (dk_at dksX8_add_0 15 rfl rfl)
theorem dX8_add_16 : decode cX8_add 16 = .ok (.iload 4, 2) := dk_21 4 (dk_at dksX8_add_0 16 rfl rfl)
theorem dX8_add_18 : decode cX8_add 18 = .ok (.iload 5, 2) := dk_21 5 (dk_at dksX8_add_0 18 rfl rfl)
theorem dX8_add_20 : decode cX8_add 20 = .ok (.invokevirtual 273, 3) := dk_182 1 17 (dk_at dksX8_add_0 20 rfl rfl)
theorem dX8_add_23 : decode cX8_add 23 = .ok (.putfield 213, 3) := dk_181 0 213 (dk_at dksX8_add_1 0 rfl rfl)
theorem dX8_add_26 : decode cX8_add 26 = .ok (.aload_n 0, 1) := dk_42 (dk_at dksX8_add_1 3 rfl rfl)
theorem dX8_add_27 : decode cX8_add 27 = .ok (.getfield 213, 3) := dk_180 0 213 (dk_at dksX8_add_1 4 rfl rfl)
theorem dX8_add_30 : decode cX8_add 30 = .ok (.ifCond .le 7, 3) := dk_158 0 7 (dk_at dksX8_add_1 7 rfl rfl)
theorem dX8_add_33 : decode cX8_add 33 = .ok (.iconst 0, 1) := dk_3 (dk_at dksX8_add_1 10 rfl rfl)
theorem dX8_add_34 : decode cX8_add 34 = .ok (.goto 14, 3) := dk_167 0 14 (dk_at dksX8_add_1 11 rfl rfl)
theorem dX8_add_37 : decode cX8_add 37 = .ok (.aload_n 0, 1) := dk_42 (dk_at dksX8_add_1 14 rfl rfl)
theorem dX8_add_38 : decode cX8_add 38 = .ok (.iload_n 1, 1) := dk_27 (dk_at dksX8_add_1 15 rfl rfl)
theorem dX8_add_39 : decode cX8_add 39 = .ok (.iload_n 2, 1) := dk_28 (dk_at dksX8_add_1 16 rfl rfl)
theorem dX8_add_40 : decode cX8_add 40 = .ok (.iload_n 3, 1) := dk_29 (dk_at dksX8_add_1 17 rfl rfl)
theorem dX8_add_41 : decode cX8_add 41 = .ok (.iload 4, 2) := dk_21 4 (dk_at dksX8_add_1 18 rfl rfl)
theorem dX8_add_43 : decode cX8_add 43 = .ok (.iload 5, 2) := dk_21 5 (dk_at dksX8_add_1 20 rfl rfl)
theorem dX8_add_45 : decode cX8_add 45 = .ok (.invokevirtual 277, 3) := dk_182 1 21 (dk_at dksX8_add_2 0 rfl rfl)
theorem dX8_add_48 : decode cX8_add 48 = .ok (.ireturn, 1) := dk_172 (dk_at dksX8_add_2 3 rfl rfl)
abbrev cX8_isSource : ByteArray := prog_20_method_4_code
def yX8_isSource : MethodName := ⟨RX8, "isSource", "(I)Z"⟩
def dkwX8_isSource_0 : List UInt8 := [26, 3, 8, 184, 0, 216, 172]
abbrev dktX8_isSource_0 : List UInt8 := dkwX8_isSource_0 ++ []
theorem dksX8_isSource_0 : cX8_isSource.data.toList.drop 0 = dktX8_isSource_0 := by decide +kernel
theorem dX8_isSource_0 : decode cX8_isSource 0 = .ok (.iload_n 0, 1) := dk_26 (dk_at dksX8_isSource_0 0 rfl rfl)
theorem dX8_isSource_1 : decode cX8_isSource 1 = .ok (.iconst 0, 1) := dk_3 (dk_at dksX8_isSource_0 1 rfl rfl)
theorem dX8_isSource_2 : decode cX8_isSource 2 = .ok (.iconst 5, 1) := dk_8 (dk_at dksX8_isSource_0 2 rfl rfl)
theorem dX8_isSource_3 : decode cX8_isSource 3 = .ok (.invokestatic 216, 3) := dk_184 0 216 (dk_at dksX8_isSource_0 3 rfl rfl)
theorem dX8_isSource_6 : decode cX8_isSource 6 = .ok (.ireturn, 1) := dk_172 (dk_at dksX8_isSource_0 6 rfl rfl)
abbrev cX8_in : ByteArray := prog_20_method_3_code
def yX8_in : MethodName := ⟨RX8, "in", "(III)Z"⟩
def dkwX8_in_0 : List UInt8 := [26, 27, 161, 0, 12, 26, 28, 163, 0, 7, 4, 167, 0, 4, 3, 172]
abbrev dktX8_in_0 : List UInt8 := dkwX8_in_0 ++ []
theorem dksX8_in_0 : cX8_in.data.toList.drop 0 = dktX8_in_0 := by decide +kernel
theorem dX8_in_0 : decode cX8_in 0 = .ok (.iload_n 0, 1) := dk_26 (dk_at dksX8_in_0 0 rfl rfl)
theorem dX8_in_1 : decode cX8_in 1 = .ok (.iload_n 1, 1) := dk_27 (dk_at dksX8_in_0 1 rfl rfl)
theorem dX8_in_2 : decode cX8_in 2 = .ok (.if_icmp .lt 12, 3) := dk_161 0 12 (dk_at dksX8_in_0 2 rfl rfl)
theorem dX8_in_5 : decode cX8_in 5 = .ok (.iload_n 0, 1) := dk_26 (dk_at dksX8_in_0 5 rfl rfl)
theorem dX8_in_6 : decode cX8_in 6 = .ok (.iload_n 2, 1) := dk_28 (dk_at dksX8_in_0 6 rfl rfl)
theorem dX8_in_7 : decode cX8_in 7 = .ok (.if_icmp .gt 7, 3) := dk_163 0 7 (dk_at dksX8_in_0 7 rfl rfl)
theorem dX8_in_10 : decode cX8_in 10 = .ok (.iconst 1, 1) := dk_4 (dk_at dksX8_in_0 10 rfl rfl)
theorem dX8_in_11 : decode cX8_in 11 = .ok (.goto 4, 3) := dk_167 0 4 (dk_at dksX8_in_0 11 rfl rfl)
theorem dX8_in_14 : decode cX8_in 14 = .ok (.iconst 0, 1) := dk_3 (dk_at dksX8_in_0 14 rfl rfl)
theorem dX8_in_15 : decode cX8_in 15 = .ok (.ireturn, 1) := dk_172 (dk_at dksX8_in_0 15 rfl rfl)
abbrev cX8_canAdd : ByteArray := prog_20_method_17_code
def yX8_canAdd : MethodName := ⟨RX8, "canAdd", "(IIIII)I"⟩
def dkwX8_canAdd_3 : List UInt8 := [162, 0, 18, 42, 180, 0, 19, 27, 46, 16, 60, 160, 0, 7, 6, 167, 0, 4, 3, 172]
abbrev dktX8_canAdd_3 : List UInt8 := dkwX8_canAdd_3 ++ []
def dkwX8_canAdd_2 : List UInt8 := [16, 12, 159, 0, 34, 27, 4, 164, 0, 13, 42, 27, 28, 182, 0, 252, 2, 160, 0, 19, 27, 5]
abbrev dktX8_canAdd_2 : List UInt8 := dkwX8_canAdd_2 ++ dktX8_canAdd_3
def dkwX8_canAdd_1 : List UInt8 := [184, 1, 3, 153, 0, 13, 27, 6, 21, 5, 184, 1, 3, 154, 0, 5, 5, 172, 42, 180, 0, 7, 27, 46]
abbrev dktX8_canAdd_1 : List UInt8 := dkwX8_canAdd_1 ++ dktX8_canAdd_2
def dkwX8_canAdd_0 : List UInt8 := [27, 3, 28, 184, 1, 3, 153, 0, 32, 27, 4, 29, 184, 1, 3, 153, 0, 23, 27, 5, 21, 4]
abbrev dktX8_canAdd_0 : List UInt8 := dkwX8_canAdd_0 ++ dktX8_canAdd_1
theorem dksX8_canAdd_0 : cX8_canAdd.data.toList.drop 0 = dktX8_canAdd_0 := by decide +kernel
theorem dksX8_canAdd_1 : cX8_canAdd.data.toList.drop 22 = dktX8_canAdd_1 := dk_seg dksX8_canAdd_0 22 rfl rfl
theorem dksX8_canAdd_2 : cX8_canAdd.data.toList.drop 46 = dktX8_canAdd_2 := dk_seg dksX8_canAdd_1 24 rfl rfl
theorem dksX8_canAdd_3 : cX8_canAdd.data.toList.drop 68 = dktX8_canAdd_3 := dk_seg dksX8_canAdd_2 22 rfl rfl
theorem dX8_canAdd_0 : decode cX8_canAdd 0 = .ok (.iload_n 1, 1) := dk_27 (dk_at dksX8_canAdd_0 0 rfl rfl)
theorem dX8_canAdd_1 : decode cX8_canAdd 1 = .ok (.iconst 0, 1) := dk_3 (dk_at dksX8_canAdd_0 1 rfl rfl)
theorem dX8_canAdd_2 : decode cX8_canAdd 2 = .ok (.iload_n 2, 1) := dk_28 (dk_at dksX8_canAdd_0 2 rfl rfl)
theorem dX8_canAdd_3 : decode cX8_canAdd 3 = .ok (.invokestatic 259, 3) := dk_184 1 3 (dk_at dksX8_canAdd_0 3 rfl rfl)
theorem dX8_canAdd_6 : decode cX8_canAdd 6 = .ok (.ifCond .eq 32, 3) := dk_153 0 32 (dk_at dksX8_canAdd_0 6 rfl rfl)
theorem dX8_canAdd_9 : decode cX8_canAdd 9 = .ok (.iload_n 1, 1) := dk_27 (dk_at dksX8_canAdd_0 9 rfl rfl)
theorem dX8_canAdd_10 : decode cX8_canAdd 10 = .ok (.iconst 1, 1) := dk_4 (dk_at dksX8_canAdd_0 10 rfl rfl)
theorem dX8_canAdd_11 : decode cX8_canAdd 11 = .ok (.iload_n 3, 1) := dk_29 (dk_at dksX8_canAdd_0 11 rfl rfl)
theorem dX8_canAdd_12 : decode cX8_canAdd 12 = .ok (.invokestatic 259, 3) := dk_184 1 3 (dk_at dksX8_canAdd_0 12 rfl rfl)
theorem dX8_canAdd_15 : decode cX8_canAdd 15 = .ok (.ifCond .eq 23, 3) := dk_153 0 23 (dk_at dksX8_canAdd_0 15 rfl rfl)
theorem dX8_canAdd_18 : decode cX8_canAdd 18 = .ok (.iload_n 1, 1) := dk_27 (dk_at dksX8_canAdd_0 18 rfl rfl)
theorem dX8_canAdd_19 : decode cX8_canAdd 19 = .ok (.iconst 2, 1) := dk_5 (dk_at dksX8_canAdd_0 19 rfl rfl)
theorem dX8_canAdd_20 : decode cX8_canAdd 20 = .ok (.iload 4, 2) := dk_21 4 (dk_at dksX8_canAdd_0 20 rfl rfl)
theorem dX8_canAdd_22 : decode cX8_canAdd 22 = .ok (.invokestatic 259, 3) := dk_184 1 3 (dk_at dksX8_canAdd_1 0 rfl rfl)
theorem dX8_canAdd_25 : decode cX8_canAdd 25 = .ok (.ifCond .eq 13, 3) := dk_153 0 13 (dk_at dksX8_canAdd_1 3 rfl rfl)
theorem dX8_canAdd_28 : decode cX8_canAdd 28 = .ok (.iload_n 1, 1) := dk_27 (dk_at dksX8_canAdd_1 6 rfl rfl)
theorem dX8_canAdd_29 : decode cX8_canAdd 29 = .ok (.iconst 3, 1) := dk_6 (dk_at dksX8_canAdd_1 7 rfl rfl)
theorem dX8_canAdd_30 : decode cX8_canAdd 30 = .ok (.iload 5, 2) := dk_21 5 (dk_at dksX8_canAdd_1 8 rfl rfl)
theorem dX8_canAdd_32 : decode cX8_canAdd 32 = .ok (.invokestatic 259, 3) := dk_184 1 3 (dk_at dksX8_canAdd_1 10 rfl rfl)
theorem dX8_canAdd_35 : decode cX8_canAdd 35 = .ok (.ifCond .ne 5, 3) := dk_154 0 5 (dk_at dksX8_canAdd_1 13 rfl rfl)
theorem dX8_canAdd_38 : decode cX8_canAdd 38 = .ok (.iconst 2, 1) := dk_5 (dk_at dksX8_canAdd_1 16 rfl rfl)
theorem dX8_canAdd_39 : decode cX8_canAdd 39 = .ok (.ireturn, 1) := dk_172 (dk_at dksX8_canAdd_1 17 rfl rfl)
theorem dX8_canAdd_40 : decode cX8_canAdd 40 = .ok (.aload_n 0, 1) := dk_42 (dk_at dksX8_canAdd_1 18 rfl rfl)
theorem dX8_canAdd_41 : decode cX8_canAdd 41 = .ok (.getfield 7, 3) := dk_180 0 7 (dk_at dksX8_canAdd_1 19 rfl rfl)
theorem dX8_canAdd_44 : decode cX8_canAdd 44 = .ok (.iload_n 1, 1) := dk_27 (dk_at dksX8_canAdd_1 22 rfl rfl)
theorem dX8_canAdd_45 : decode cX8_canAdd 45 = .ok (.iaload, 1) := dk_46 (dk_at dksX8_canAdd_1 23 rfl rfl)
theorem dX8_canAdd_46 : decode cX8_canAdd 46 = .ok (.bipush 12, 2) := dk_16 12 (dk_at dksX8_canAdd_2 0 rfl rfl)
theorem dX8_canAdd_48 : decode cX8_canAdd 48 = .ok (.if_icmp .eq 34, 3) := dk_159 0 34 (dk_at dksX8_canAdd_2 2 rfl rfl)
theorem dX8_canAdd_51 : decode cX8_canAdd 51 = .ok (.iload_n 1, 1) := dk_27 (dk_at dksX8_canAdd_2 5 rfl rfl)
theorem dX8_canAdd_52 : decode cX8_canAdd 52 = .ok (.iconst 1, 1) := dk_4 (dk_at dksX8_canAdd_2 6 rfl rfl)
theorem dX8_canAdd_53 : decode cX8_canAdd 53 = .ok (.if_icmp .le 13, 3) := dk_164 0 13 (dk_at dksX8_canAdd_2 7 rfl rfl)
theorem dX8_canAdd_56 : decode cX8_canAdd 56 = .ok (.aload_n 0, 1) := dk_42 (dk_at dksX8_canAdd_2 10 rfl rfl)
theorem dX8_canAdd_57 : decode cX8_canAdd 57 = .ok (.iload_n 1, 1) := dk_27 (dk_at dksX8_canAdd_2 11 rfl rfl)
theorem dX8_canAdd_58 : decode cX8_canAdd 58 = .ok (.iload_n 2, 1) := dk_28 (dk_at dksX8_canAdd_2 12 rfl rfl)
theorem dX8_canAdd_59 : decode cX8_canAdd 59 = .ok (.invokevirtual 252, 3) := dk_182 0 252 (dk_at dksX8_canAdd_2 13 rfl rfl)
theorem dX8_canAdd_62 : decode cX8_canAdd 62 = .ok (.iconst (-1), 1) := dk_2 (dk_at dksX8_canAdd_2 16 rfl rfl)
theorem dX8_canAdd_63 : decode cX8_canAdd 63 = .ok (.if_icmp .ne 19, 3) := dk_160 0 19 (dk_at dksX8_canAdd_2 17 rfl rfl)
theorem dX8_canAdd_66 : decode cX8_canAdd 66 = .ok (.iload_n 1, 1) := dk_27 (dk_at dksX8_canAdd_2 20 rfl rfl)
theorem dX8_canAdd_67 : decode cX8_canAdd 67 = .ok (.iconst 2, 1) := dk_5 (dk_at dksX8_canAdd_2 21 rfl rfl)
theorem dX8_canAdd_68 : decode cX8_canAdd 68 = .ok (.if_icmp .ge 18, 3) := dk_162 0 18 (dk_at dksX8_canAdd_3 0 rfl rfl)
theorem dX8_canAdd_71 : decode cX8_canAdd 71 = .ok (.aload_n 0, 1) := dk_42 (dk_at dksX8_canAdd_3 3 rfl rfl)
theorem dX8_canAdd_72 : decode cX8_canAdd 72 = .ok (.getfield 19, 3) := dk_180 0 19 (dk_at dksX8_canAdd_3 4 rfl rfl)
theorem dX8_canAdd_75 : decode cX8_canAdd 75 = .ok (.iload_n 1, 1) := dk_27 (dk_at dksX8_canAdd_3 7 rfl rfl)
theorem dX8_canAdd_76 : decode cX8_canAdd 76 = .ok (.iaload, 1) := dk_46 (dk_at dksX8_canAdd_3 8 rfl rfl)
theorem dX8_canAdd_77 : decode cX8_canAdd 77 = .ok (.bipush 60, 2) := dk_16 60 (dk_at dksX8_canAdd_3 9 rfl rfl)
theorem dX8_canAdd_79 : decode cX8_canAdd 79 = .ok (.if_icmp .ne 7, 3) := dk_160 0 7 (dk_at dksX8_canAdd_3 11 rfl rfl)
theorem dX8_canAdd_82 : decode cX8_canAdd 82 = .ok (.iconst 3, 1) := dk_6 (dk_at dksX8_canAdd_3 14 rfl rfl)
theorem dX8_canAdd_83 : decode cX8_canAdd 83 = .ok (.goto 4, 3) := dk_167 0 4 (dk_at dksX8_canAdd_3 15 rfl rfl)
theorem dX8_canAdd_86 : decode cX8_canAdd 86 = .ok (.iconst 0, 1) := dk_3 (dk_at dksX8_canAdd_3 18 rfl rfl)
theorem dX8_canAdd_87 : decode cX8_canAdd 87 = .ok (.ireturn, 1) := dk_172 (dk_at dksX8_canAdd_3 19 rfl rfl)
abbrev cX8_isCell : ByteArray := prog_20_method_9_code
def yX8_isCell : MethodName := ⟨RX8, "isCell", "(III)Z"⟩
def dkwX8_isCell_2 : List UInt8 := [159, 0, 15, 28, 17, 19, 137, 160, 0, 12, 26, 6, 164, 0, 7, 4, 167, 0, 4, 3, 172]
abbrev dktX8_isCell_2 : List UInt8 := dkwX8_isCell_2 ++ []
def dkwX8_isCell_1 : List UInt8 := [154, 0, 11, 28, 3, 16, 99, 184, 0, 216, 172, 28, 184, 0, 228, 154, 0, 22, 28, 17, 19, 136]
abbrev dktX8_isCell_1 : List UInt8 := dkwX8_isCell_1 ++ dktX8_isCell_2
def dkwX8_isCell_0 : List UInt8 := [26, 27, 184, 0, 224, 154, 0, 13, 28, 154, 0, 7, 4, 167, 0, 4, 3, 172, 26, 4, 164, 0, 15, 27]
abbrev dktX8_isCell_0 : List UInt8 := dkwX8_isCell_0 ++ dktX8_isCell_1
theorem dksX8_isCell_0 : cX8_isCell.data.toList.drop 0 = dktX8_isCell_0 := by decide +kernel
theorem dksX8_isCell_1 : cX8_isCell.data.toList.drop 24 = dktX8_isCell_1 := dk_seg dksX8_isCell_0 24 rfl rfl
theorem dksX8_isCell_2 : cX8_isCell.data.toList.drop 46 = dktX8_isCell_2 := dk_seg dksX8_isCell_1 22 rfl rfl
theorem dX8_isCell_0 : decode cX8_isCell 0 = .ok (.iload_n 0, 1) := dk_26 (dk_at dksX8_isCell_0 0 rfl rfl)
theorem dX8_isCell_1 : decode cX8_isCell 1 = .ok (.iload_n 1, 1) := dk_27 (dk_at dksX8_isCell_0 1 rfl rfl)
theorem dX8_isCell_2 : decode cX8_isCell 2 = .ok (.invokestatic 224, 3) := dk_184 0 224 (dk_at dksX8_isCell_0 2 rfl rfl)
theorem dX8_isCell_5 : decode cX8_isCell 5 = .ok (.ifCond .ne 13, 3) := dk_154 0 13 (dk_at dksX8_isCell_0 5 rfl rfl)
theorem dX8_isCell_8 : decode cX8_isCell 8 = .ok (.iload_n 2, 1) := dk_28 (dk_at dksX8_isCell_0 8 rfl rfl)
theorem dX8_isCell_9 : decode cX8_isCell 9 = .ok (.ifCond .ne 7, 3) := dk_154 0 7 (dk_at dksX8_isCell_0 9 rfl rfl)
theorem dX8_isCell_12 : decode cX8_isCell 12 = .ok (.iconst 1, 1) := dk_4 (dk_at dksX8_isCell_0 12 rfl rfl)
theorem dX8_isCell_13 : decode cX8_isCell 13 = .ok (.goto 4, 3) := dk_167 0 4 (dk_at dksX8_isCell_0 13 rfl rfl)
theorem dX8_isCell_16 : decode cX8_isCell 16 = .ok (.iconst 0, 1) := dk_3 (dk_at dksX8_isCell_0 16 rfl rfl)
theorem dX8_isCell_17 : decode cX8_isCell 17 = .ok (.ireturn, 1) := dk_172 (dk_at dksX8_isCell_0 17 rfl rfl)
theorem dX8_isCell_18 : decode cX8_isCell 18 = .ok (.iload_n 0, 1) := dk_26 (dk_at dksX8_isCell_0 18 rfl rfl)
theorem dX8_isCell_19 : decode cX8_isCell 19 = .ok (.iconst 1, 1) := dk_4 (dk_at dksX8_isCell_0 19 rfl rfl)
theorem dX8_isCell_20 : decode cX8_isCell 20 = .ok (.if_icmp .le 15, 3) := dk_164 0 15 (dk_at dksX8_isCell_0 20 rfl rfl)
theorem dX8_isCell_23 : decode cX8_isCell 23 = .ok (.iload_n 1, 1) := dk_27 (dk_at dksX8_isCell_0 23 rfl rfl)
theorem dX8_isCell_24 : decode cX8_isCell 24 = .ok (.ifCond .ne 11, 3) := dk_154 0 11 (dk_at dksX8_isCell_1 0 rfl rfl)
theorem dX8_isCell_27 : decode cX8_isCell 27 = .ok (.iload_n 2, 1) := dk_28 (dk_at dksX8_isCell_1 3 rfl rfl)
theorem dX8_isCell_28 : decode cX8_isCell 28 = .ok (.iconst 0, 1) := dk_3 (dk_at dksX8_isCell_1 4 rfl rfl)
theorem dX8_isCell_29 : decode cX8_isCell 29 = .ok (.bipush 99, 2) := dk_16 99 (dk_at dksX8_isCell_1 5 rfl rfl)
theorem dX8_isCell_31 : decode cX8_isCell 31 = .ok (.invokestatic 216, 3) := dk_184 0 216 (dk_at dksX8_isCell_1 7 rfl rfl)
theorem dX8_isCell_34 : decode cX8_isCell 34 = .ok (.ireturn, 1) := dk_172 (dk_at dksX8_isCell_1 10 rfl rfl)
theorem dX8_isCell_35 : decode cX8_isCell 35 = .ok (.iload_n 2, 1) := dk_28 (dk_at dksX8_isCell_1 11 rfl rfl)
theorem dX8_isCell_36 : decode cX8_isCell 36 = .ok (.invokestatic 228, 3) := dk_184 0 228 (dk_at dksX8_isCell_1 12 rfl rfl)
theorem dX8_isCell_39 : decode cX8_isCell 39 = .ok (.ifCond .ne 22, 3) := dk_154 0 22 (dk_at dksX8_isCell_1 15 rfl rfl)
theorem dX8_isCell_42 : decode cX8_isCell 42 = .ok (.iload_n 2, 1) := dk_28 (dk_at dksX8_isCell_1 18 rfl rfl)
theorem dX8_isCell_43 : decode cX8_isCell 43 = .ok (.sipush 5000, 3) := dk_17 19 136 (dk_at dksX8_isCell_1 19 rfl rfl)
theorem dX8_isCell_46 : decode cX8_isCell 46 = .ok (.if_icmp .eq 15, 3) := dk_159 0 15 (dk_at dksX8_isCell_2 0 rfl rfl)
theorem dX8_isCell_49 : decode cX8_isCell 49 = .ok (.iload_n 2, 1) := dk_28 (dk_at dksX8_isCell_2 3 rfl rfl)
theorem dX8_isCell_50 : decode cX8_isCell 50 = .ok (.sipush 5001, 3) := dk_17 19 137 (dk_at dksX8_isCell_2 4 rfl rfl)
theorem dX8_isCell_53 : decode cX8_isCell 53 = .ok (.if_icmp .ne 12, 3) := dk_160 0 12 (dk_at dksX8_isCell_2 7 rfl rfl)
theorem dX8_isCell_56 : decode cX8_isCell 56 = .ok (.iload_n 0, 1) := dk_26 (dk_at dksX8_isCell_2 10 rfl rfl)
theorem dX8_isCell_57 : decode cX8_isCell 57 = .ok (.iconst 3, 1) := dk_6 (dk_at dksX8_isCell_2 11 rfl rfl)
theorem dX8_isCell_58 : decode cX8_isCell 58 = .ok (.if_icmp .le 7, 3) := dk_164 0 7 (dk_at dksX8_isCell_2 12 rfl rfl)
theorem dX8_isCell_61 : decode cX8_isCell 61 = .ok (.iconst 1, 1) := dk_4 (dk_at dksX8_isCell_2 15 rfl rfl)
theorem dX8_isCell_62 : decode cX8_isCell 62 = .ok (.goto 4, 3) := dk_167 0 4 (dk_at dksX8_isCell_2 16 rfl rfl)
theorem dX8_isCell_65 : decode cX8_isCell 65 = .ok (.iconst 0, 1) := dk_3 (dk_at dksX8_isCell_2 19 rfl rfl)
theorem dX8_isCell_66 : decode cX8_isCell 66 = .ok (.ireturn, 1) := dk_172 (dk_at dksX8_isCell_2 20 rfl rfl)
abbrev cX8_isColumn : ByteArray := prog_20_method_7_code
def yX8_isColumn : MethodName := ⟨RX8, "isColumn", "(II)Z"⟩
def dkwX8_isColumn_0 : List UInt8 := [27, 3, 26, 184, 0, 220, 4, 160, 0, 7, 4, 167, 0, 4, 6, 184, 0, 216, 172]
abbrev dktX8_isColumn_0 : List UInt8 := dkwX8_isColumn_0 ++ []
theorem dksX8_isColumn_0 : cX8_isColumn.data.toList.drop 0 = dktX8_isColumn_0 := by decide +kernel
theorem dX8_isColumn_0 : decode cX8_isColumn 0 = .ok (.iload_n 1, 1) := dk_27 (dk_at dksX8_isColumn_0 0 rfl rfl)
theorem dX8_isColumn_1 : decode cX8_isColumn 1 = .ok (.iconst 0, 1) := dk_3 (dk_at dksX8_isColumn_0 1 rfl rfl)
theorem dX8_isColumn_2 : decode cX8_isColumn 2 = .ok (.iload_n 0, 1) := dk_26 (dk_at dksX8_isColumn_0 2 rfl rfl)
theorem dX8_isColumn_3 : decode cX8_isColumn 3 = .ok (.invokestatic 220, 3) := dk_184 0 220 (dk_at dksX8_isColumn_0 3 rfl rfl)
theorem dX8_isColumn_6 : decode cX8_isColumn 6 = .ok (.iconst 1, 1) := dk_4 (dk_at dksX8_isColumn_0 6 rfl rfl)
theorem dX8_isColumn_7 : decode cX8_isColumn 7 = .ok (.if_icmp .ne 7, 3) := dk_160 0 7 (dk_at dksX8_isColumn_0 7 rfl rfl)
theorem dX8_isColumn_10 : decode cX8_isColumn 10 = .ok (.iconst 1, 1) := dk_4 (dk_at dksX8_isColumn_0 10 rfl rfl)
theorem dX8_isColumn_11 : decode cX8_isColumn 11 = .ok (.goto 4, 3) := dk_167 0 4 (dk_at dksX8_isColumn_0 11 rfl rfl)
theorem dX8_isColumn_14 : decode cX8_isColumn 14 = .ok (.iconst 3, 1) := dk_6 (dk_at dksX8_isColumn_0 14 rfl rfl)
theorem dX8_isColumn_15 : decode cX8_isColumn 15 = .ok (.invokestatic 216, 3) := dk_184 0 216 (dk_at dksX8_isColumn_0 15 rfl rfl)
theorem dX8_isColumn_18 : decode cX8_isColumn 18 = .ok (.ireturn, 1) := dk_172 (dk_at dksX8_isColumn_0 18 rfl rfl)
abbrev cX8_storeOf : ByteArray := prog_20_method_6_code
def yX8_storeOf : MethodName := ⟨RX8, "storeOf", "(I)I"⟩
def dkwX8_storeOf_0 : List UInt8 := [26, 5, 108, 172]
abbrev dktX8_storeOf_0 : List UInt8 := dkwX8_storeOf_0 ++ []
theorem dksX8_storeOf_0 : cX8_storeOf.data.toList.drop 0 = dktX8_storeOf_0 := by decide +kernel
theorem dX8_storeOf_0 : decode cX8_storeOf 0 = .ok (.iload_n 0, 1) := dk_26 (dk_at dksX8_storeOf_0 0 rfl rfl)
theorem dX8_storeOf_1 : decode cX8_storeOf 1 = .ok (.iconst 2, 1) := dk_5 (dk_at dksX8_storeOf_0 1 rfl rfl)
theorem dX8_storeOf_2 : decode cX8_storeOf 2 = .ok (.idiv, 1) := dk_108 (dk_at dksX8_storeOf_0 2 rfl rfl)
theorem dX8_storeOf_3 : decode cX8_storeOf 3 = .ok (.ireturn, 1) := dk_172 (dk_at dksX8_storeOf_0 3 rfl rfl)
abbrev cX8_isNumber : ByteArray := prog_20_method_8_code
def yX8_isNumber : MethodName := ⟨RX8, "isNumber", "(I)Z"⟩
def dkwX8_isNumber_0 : List UInt8 := [26, 17, 252, 25, 17, 3, 231, 184, 0, 216, 172]
abbrev dktX8_isNumber_0 : List UInt8 := dkwX8_isNumber_0 ++ []
theorem dksX8_isNumber_0 : cX8_isNumber.data.toList.drop 0 = dktX8_isNumber_0 := by decide +kernel
theorem dX8_isNumber_0 : decode cX8_isNumber 0 = .ok (.iload_n 0, 1) := dk_26 (dk_at dksX8_isNumber_0 0 rfl rfl)
theorem dX8_isNumber_1 : decode cX8_isNumber 1 = .ok (.sipush (-999), 3) := dk_17 252 25 (dk_at dksX8_isNumber_0 1 rfl rfl)
theorem dX8_isNumber_4 : decode cX8_isNumber 4 = .ok (.sipush 999, 3) := dk_17 3 231 (dk_at dksX8_isNumber_0 4 rfl rfl)
theorem dX8_isNumber_7 : decode cX8_isNumber 7 = .ok (.invokestatic 216, 3) := dk_184 0 216 (dk_at dksX8_isNumber_0 7 rfl rfl)
theorem dX8_isNumber_10 : decode cX8_isNumber 10 = .ok (.ireturn, 1) := dk_172 (dk_at dksX8_isNumber_0 10 rfl rfl)
abbrev cX8_placeOf : ByteArray := prog_20_method_10_code
def yX8_placeOf : MethodName := ⟨RX8, "placeOf", "(II)I"⟩
def dkwX8_placeOf_1 : List UInt8 := [21, 4, 96, 46, 28, 160, 0, 8, 21, 4, 167, 0, 4, 29, 62, 132, 4, 1, 167, 255, 219, 29, 172]
abbrev dktX8_placeOf_1 : List UInt8 := dkwX8_placeOf_1 ++ []
def dkwX8_placeOf_0 : List UInt8 := [2, 62, 3, 54, 4, 21, 4, 42, 180, 0, 7, 27, 46, 162, 0, 32, 42, 180, 0, 13, 16, 12, 27, 104]
abbrev dktX8_placeOf_0 : List UInt8 := dkwX8_placeOf_0 ++ dktX8_placeOf_1
theorem dksX8_placeOf_0 : cX8_placeOf.data.toList.drop 0 = dktX8_placeOf_0 := by decide +kernel
theorem dksX8_placeOf_1 : cX8_placeOf.data.toList.drop 24 = dktX8_placeOf_1 := dk_seg dksX8_placeOf_0 24 rfl rfl
theorem dX8_placeOf_0 : decode cX8_placeOf 0 = .ok (.iconst (-1), 1) := dk_2 (dk_at dksX8_placeOf_0 0 rfl rfl)
theorem dX8_placeOf_1 : decode cX8_placeOf 1 = .ok (.istore_n 3, 1) := dk_62 (dk_at dksX8_placeOf_0 1 rfl rfl)
theorem dX8_placeOf_2 : decode cX8_placeOf 2 = .ok (.iconst 0, 1) := dk_3 (dk_at dksX8_placeOf_0 2 rfl rfl)
theorem dX8_placeOf_3 : decode cX8_placeOf 3 = .ok (.istore 4, 2) := dk_54 4 (dk_at dksX8_placeOf_0 3 rfl rfl)
theorem dX8_placeOf_5 : decode cX8_placeOf 5 = .ok (.iload 4, 2) := dk_21 4 (dk_at dksX8_placeOf_0 5 rfl rfl)
theorem dX8_placeOf_7 : decode cX8_placeOf 7 = .ok (.aload_n 0, 1) := dk_42 (dk_at dksX8_placeOf_0 7 rfl rfl)
theorem dX8_placeOf_8 : decode cX8_placeOf 8 = .ok (.getfield 7, 3) := dk_180 0 7 (dk_at dksX8_placeOf_0 8 rfl rfl)
theorem dX8_placeOf_11 : decode cX8_placeOf 11 = .ok (.iload_n 1, 1) := dk_27 (dk_at dksX8_placeOf_0 11 rfl rfl)
theorem dX8_placeOf_12 : decode cX8_placeOf 12 = .ok (.iaload, 1) := dk_46 (dk_at dksX8_placeOf_0 12 rfl rfl)
theorem dX8_placeOf_13 : decode cX8_placeOf 13 = .ok (.if_icmp .ge 32, 3) := dk_162 0 32 (dk_at dksX8_placeOf_0 13 rfl rfl)
theorem dX8_placeOf_16 : decode cX8_placeOf 16 = .ok (.aload_n 0, 1) := dk_42 (dk_at dksX8_placeOf_0 16 rfl rfl)
theorem dX8_placeOf_17 : decode cX8_placeOf 17 = .ok (.getfield 13, 3) := dk_180 0 13 (dk_at dksX8_placeOf_0 17 rfl rfl)
theorem dX8_placeOf_20 : decode cX8_placeOf 20 = .ok (.bipush 12, 2) := dk_16 12 (dk_at dksX8_placeOf_0 20 rfl rfl)
theorem dX8_placeOf_22 : decode cX8_placeOf 22 = .ok (.iload_n 1, 1) := dk_27 (dk_at dksX8_placeOf_0 22 rfl rfl)
theorem dX8_placeOf_23 : decode cX8_placeOf 23 = .ok (.imul, 1) := dk_104 (dk_at dksX8_placeOf_0 23 rfl rfl)
theorem dX8_placeOf_24 : decode cX8_placeOf 24 = .ok (.iload 4, 2) := dk_21 4 (dk_at dksX8_placeOf_1 0 rfl rfl)
theorem dX8_placeOf_26 : decode cX8_placeOf 26 = .ok (.iadd, 1) := dk_96 (dk_at dksX8_placeOf_1 2 rfl rfl)
theorem dX8_placeOf_27 : decode cX8_placeOf 27 = .ok (.iaload, 1) := dk_46 (dk_at dksX8_placeOf_1 3 rfl rfl)
theorem dX8_placeOf_28 : decode cX8_placeOf 28 = .ok (.iload_n 2, 1) := dk_28 (dk_at dksX8_placeOf_1 4 rfl rfl)
theorem dX8_placeOf_29 : decode cX8_placeOf 29 = .ok (.if_icmp .ne 8, 3) := dk_160 0 8 (dk_at dksX8_placeOf_1 5 rfl rfl)
theorem dX8_placeOf_32 : decode cX8_placeOf 32 = .ok (.iload 4, 2) := dk_21 4 (dk_at dksX8_placeOf_1 8 rfl rfl)
theorem dX8_placeOf_34 : decode cX8_placeOf 34 = .ok (.goto 4, 3) := dk_167 0 4 (dk_at dksX8_placeOf_1 10 rfl rfl)
theorem dX8_placeOf_37 : decode cX8_placeOf 37 = .ok (.iload_n 3, 1) := dk_29 (dk_at dksX8_placeOf_1 13 rfl rfl)
theorem dX8_placeOf_38 : decode cX8_placeOf 38 = .ok (.istore_n 3, 1) := dk_62 (dk_at dksX8_placeOf_1 14 rfl rfl)
theorem dX8_placeOf_39 : decode cX8_placeOf 39 = .ok (.iinc 4 1, 3) := dk_132 4 1 (dk_at dksX8_placeOf_1 15 rfl rfl)
theorem dX8_placeOf_42 : decode cX8_placeOf 42 = .ok (.goto (-37), 3) := dk_167 255 219 (dk_at dksX8_placeOf_1 18 rfl rfl)
theorem dX8_placeOf_45 : decode cX8_placeOf 45 = .ok (.iload_n 3, 1) := dk_29 (dk_at dksX8_placeOf_1 21 rfl rfl)
theorem dX8_placeOf_46 : decode cX8_placeOf 46 = .ok (.ireturn, 1) := dk_172 (dk_at dksX8_placeOf_1 22 rfl rfl)
abbrev cX8_adds : ByteArray := prog_20_method_18_code
def yX8_adds : MethodName := ⟨RX8, "adds", "(IIIII)I"⟩
def dkwX8_adds_2 : List UInt8 := [21, 4, 21, 5, 182, 1, 10, 21, 6, 172]
abbrev dktX8_adds_2 : List UInt8 := dkwX8_adds_2 ++ []
def dkwX8_adds_1 : List UInt8 := [27, 4, 164, 0, 7, 3, 167, 0, 4, 4, 96, 79, 42, 27, 21, 6, 28, 42, 27, 4, 29, 182, 1, 6]
abbrev dktX8_adds_1 : List UInt8 := dkwX8_adds_1 ++ dktX8_adds_2
def dkwX8_adds_0 : List UInt8 := [27, 4, 164, 0, 7, 28, 167, 0, 9, 42, 180, 0, 19, 27, 46, 54, 6, 42, 180, 0, 19, 27, 92, 46]
abbrev dktX8_adds_0 : List UInt8 := dkwX8_adds_0 ++ dktX8_adds_1
theorem dksX8_adds_0 : cX8_adds.data.toList.drop 0 = dktX8_adds_0 := by decide +kernel
theorem dksX8_adds_1 : cX8_adds.data.toList.drop 24 = dktX8_adds_1 := dk_seg dksX8_adds_0 24 rfl rfl
theorem dksX8_adds_2 : cX8_adds.data.toList.drop 48 = dktX8_adds_2 := dk_seg dksX8_adds_1 24 rfl rfl
theorem dX8_adds_0 : decode cX8_adds 0 = .ok (.iload_n 1, 1) := dk_27 (dk_at dksX8_adds_0 0 rfl rfl)
theorem dX8_adds_1 : decode cX8_adds 1 = .ok (.iconst 1, 1) := dk_4 (dk_at dksX8_adds_0 1 rfl rfl)
theorem dX8_adds_2 : decode cX8_adds 2 = .ok (.if_icmp .le 7, 3) := dk_164 0 7 (dk_at dksX8_adds_0 2 rfl rfl)
theorem dX8_adds_5 : decode cX8_adds 5 = .ok (.iload_n 2, 1) := dk_28 (dk_at dksX8_adds_0 5 rfl rfl)
theorem dX8_adds_6 : decode cX8_adds 6 = .ok (.goto 9, 3) := dk_167 0 9 (dk_at dksX8_adds_0 6 rfl rfl)
theorem dX8_adds_9 : decode cX8_adds 9 = .ok (.aload_n 0, 1) := dk_42 (dk_at dksX8_adds_0 9 rfl rfl)
theorem dX8_adds_10 : decode cX8_adds 10 = .ok (.getfield 19, 3) := dk_180 0 19 (dk_at dksX8_adds_0 10 rfl rfl)
theorem dX8_adds_13 : decode cX8_adds 13 = .ok (.iload_n 1, 1) := dk_27 (dk_at dksX8_adds_0 13 rfl rfl)
theorem dX8_adds_14 : decode cX8_adds 14 = .ok (.iaload, 1) := dk_46 (dk_at dksX8_adds_0 14 rfl rfl)
theorem dX8_adds_15 : decode cX8_adds 15 = .ok (.istore 6, 2) := dk_54 6 (dk_at dksX8_adds_0 15 rfl rfl)
theorem dX8_adds_17 : decode cX8_adds 17 = .ok (.aload_n 0, 1) := dk_42 (dk_at dksX8_adds_0 17 rfl rfl)
theorem dX8_adds_18 : decode cX8_adds 18 = .ok (.getfield 19, 3) := dk_180 0 19 (dk_at dksX8_adds_0 18 rfl rfl)
theorem dX8_adds_21 : decode cX8_adds 21 = .ok (.iload_n 1, 1) := dk_27 (dk_at dksX8_adds_0 21 rfl rfl)
theorem dX8_adds_22 : decode cX8_adds 22 = .ok (.dup2, 1) := dk_92 (dk_at dksX8_adds_0 22 rfl rfl)
theorem dX8_adds_23 : decode cX8_adds 23 = .ok (.iaload, 1) := dk_46 (dk_at dksX8_adds_0 23 rfl rfl)
theorem dX8_adds_24 : decode cX8_adds 24 = .ok (.iload_n 1, 1) := dk_27 (dk_at dksX8_adds_1 0 rfl rfl)
theorem dX8_adds_25 : decode cX8_adds 25 = .ok (.iconst 1, 1) := dk_4 (dk_at dksX8_adds_1 1 rfl rfl)
theorem dX8_adds_26 : decode cX8_adds 26 = .ok (.if_icmp .le 7, 3) := dk_164 0 7 (dk_at dksX8_adds_1 2 rfl rfl)
theorem dX8_adds_29 : decode cX8_adds 29 = .ok (.iconst 0, 1) := dk_3 (dk_at dksX8_adds_1 5 rfl rfl)
theorem dX8_adds_30 : decode cX8_adds 30 = .ok (.goto 4, 3) := dk_167 0 4 (dk_at dksX8_adds_1 6 rfl rfl)
theorem dX8_adds_33 : decode cX8_adds 33 = .ok (.iconst 1, 1) := dk_4 (dk_at dksX8_adds_1 9 rfl rfl)
theorem dX8_adds_34 : decode cX8_adds 34 = .ok (.iadd, 1) := dk_96 (dk_at dksX8_adds_1 10 rfl rfl)
theorem dX8_adds_35 : decode cX8_adds 35 = .ok (.iastore, 1) := dk_79 (dk_at dksX8_adds_1 11 rfl rfl)
theorem dX8_adds_36 : decode cX8_adds 36 = .ok (.aload_n 0, 1) := dk_42 (dk_at dksX8_adds_1 12 rfl rfl)
theorem dX8_adds_37 : decode cX8_adds 37 = .ok (.iload_n 1, 1) := dk_27 (dk_at dksX8_adds_1 13 rfl rfl)
theorem dX8_adds_38 : decode cX8_adds 38 = .ok (.iload 6, 2) := dk_21 6 (dk_at dksX8_adds_1 14 rfl rfl)
theorem dX8_adds_40 : decode cX8_adds 40 = .ok (.iload_n 2, 1) := dk_28 (dk_at dksX8_adds_1 16 rfl rfl)
theorem dX8_adds_41 : decode cX8_adds 41 = .ok (.aload_n 0, 1) := dk_42 (dk_at dksX8_adds_1 17 rfl rfl)
theorem dX8_adds_42 : decode cX8_adds 42 = .ok (.iload_n 1, 1) := dk_27 (dk_at dksX8_adds_1 18 rfl rfl)
theorem dX8_adds_43 : decode cX8_adds 43 = .ok (.iconst 1, 1) := dk_4 (dk_at dksX8_adds_1 19 rfl rfl)
theorem dX8_adds_44 : decode cX8_adds 44 = .ok (.iload_n 3, 1) := dk_29 (dk_at dksX8_adds_1 20 rfl rfl)
theorem dX8_adds_45 : decode cX8_adds 45 = .ok (.invokevirtual 262, 3) := dk_182 1 6 (dk_at dksX8_adds_1 21 rfl rfl)
theorem dX8_adds_48 : decode cX8_adds 48 = .ok (.iload 4, 2) := dk_21 4 (dk_at dksX8_adds_2 0 rfl rfl)
theorem dX8_adds_50 : decode cX8_adds 50 = .ok (.iload 5, 2) := dk_21 5 (dk_at dksX8_adds_2 2 rfl rfl)
theorem dX8_adds_52 : decode cX8_adds 52 = .ok (.invokevirtual 266, 3) := dk_182 1 10 (dk_at dksX8_adds_2 4 rfl rfl)
theorem dX8_adds_55 : decode cX8_adds 55 = .ok (.iload 6, 2) := dk_21 6 (dk_at dksX8_adds_2 7 rfl rfl)
theorem dX8_adds_57 : decode cX8_adds 57 = .ok (.ireturn, 1) := dk_172 (dk_at dksX8_adds_2 9 rfl rfl)
abbrev cX8_kept : ByteArray := prog_20_method_16_code
def yX8_kept : MethodName := ⟨RX8, "kept", "(III)I"⟩
def dkwX8_kept_2 : List UInt8 := [180, 1, 0, 21, 4, 29, 160, 0, 7, 3, 167, 0, 4, 4, 96, 181, 1, 0, 21, 4, 172]
abbrev dktX8_kept_2 : List UInt8 := dkwX8_kept_2 ++ []
def dkwX8_kept_1 : List UInt8 := [156, 0, 7, 3, 167, 0, 15, 29, 16, 99, 164, 0, 8, 16, 99, 167, 0, 4, 29, 54, 4, 42, 89]
abbrev dktX8_kept_1 : List UInt8 := dkwX8_kept_1 ++ dktX8_kept_2
def dkwX8_kept_0 : List UInt8 := [27, 184, 0, 220, 4, 160, 0, 15, 28, 4, 160, 0, 10, 29, 184, 0, 228, 154, 0, 5, 29, 172, 29]
abbrev dktX8_kept_0 : List UInt8 := dkwX8_kept_0 ++ dktX8_kept_1
theorem dksX8_kept_0 : cX8_kept.data.toList.drop 0 = dktX8_kept_0 := by decide +kernel
theorem dksX8_kept_1 : cX8_kept.data.toList.drop 23 = dktX8_kept_1 := dk_seg dksX8_kept_0 23 rfl rfl
theorem dksX8_kept_2 : cX8_kept.data.toList.drop 46 = dktX8_kept_2 := dk_seg dksX8_kept_1 23 rfl rfl
theorem dX8_kept_0 : decode cX8_kept 0 = .ok (.iload_n 1, 1) := dk_27 (dk_at dksX8_kept_0 0 rfl rfl)
theorem dX8_kept_1 : decode cX8_kept 1 = .ok (.invokestatic 220, 3) := dk_184 0 220 (dk_at dksX8_kept_0 1 rfl rfl)
theorem dX8_kept_4 : decode cX8_kept 4 = .ok (.iconst 1, 1) := dk_4 (dk_at dksX8_kept_0 4 rfl rfl)
theorem dX8_kept_5 : decode cX8_kept 5 = .ok (.if_icmp .ne 15, 3) := dk_160 0 15 (dk_at dksX8_kept_0 5 rfl rfl)
theorem dX8_kept_8 : decode cX8_kept 8 = .ok (.iload_n 2, 1) := dk_28 (dk_at dksX8_kept_0 8 rfl rfl)
theorem dX8_kept_9 : decode cX8_kept 9 = .ok (.iconst 1, 1) := dk_4 (dk_at dksX8_kept_0 9 rfl rfl)
theorem dX8_kept_10 : decode cX8_kept 10 = .ok (.if_icmp .ne 10, 3) := dk_160 0 10 (dk_at dksX8_kept_0 10 rfl rfl)
theorem dX8_kept_13 : decode cX8_kept 13 = .ok (.iload_n 3, 1) := dk_29 (dk_at dksX8_kept_0 13 rfl rfl)
theorem dX8_kept_14 : decode cX8_kept 14 = .ok (.invokestatic 228, 3) := dk_184 0 228 (dk_at dksX8_kept_0 14 rfl rfl)
theorem dX8_kept_17 : decode cX8_kept 17 = .ok (.ifCond .ne 5, 3) := dk_154 0 5 (dk_at dksX8_kept_0 17 rfl rfl)
theorem dX8_kept_20 : decode cX8_kept 20 = .ok (.iload_n 3, 1) := dk_29 (dk_at dksX8_kept_0 20 rfl rfl)
theorem dX8_kept_21 : decode cX8_kept 21 = .ok (.ireturn, 1) := dk_172 (dk_at dksX8_kept_0 21 rfl rfl)
theorem dX8_kept_22 : decode cX8_kept 22 = .ok (.iload_n 3, 1) := dk_29 (dk_at dksX8_kept_0 22 rfl rfl)
theorem dX8_kept_23 : decode cX8_kept 23 = .ok (.ifCond .ge 7, 3) := dk_156 0 7 (dk_at dksX8_kept_1 0 rfl rfl)
theorem dX8_kept_26 : decode cX8_kept 26 = .ok (.iconst 0, 1) := dk_3 (dk_at dksX8_kept_1 3 rfl rfl)
theorem dX8_kept_27 : decode cX8_kept 27 = .ok (.goto 15, 3) := dk_167 0 15 (dk_at dksX8_kept_1 4 rfl rfl)
theorem dX8_kept_30 : decode cX8_kept 30 = .ok (.iload_n 3, 1) := dk_29 (dk_at dksX8_kept_1 7 rfl rfl)
theorem dX8_kept_31 : decode cX8_kept 31 = .ok (.bipush 99, 2) := dk_16 99 (dk_at dksX8_kept_1 8 rfl rfl)
theorem dX8_kept_33 : decode cX8_kept 33 = .ok (.if_icmp .le 8, 3) := dk_164 0 8 (dk_at dksX8_kept_1 10 rfl rfl)
theorem dX8_kept_36 : decode cX8_kept 36 = .ok (.bipush 99, 2) := dk_16 99 (dk_at dksX8_kept_1 13 rfl rfl)
theorem dX8_kept_38 : decode cX8_kept 38 = .ok (.goto 4, 3) := dk_167 0 4 (dk_at dksX8_kept_1 15 rfl rfl)
theorem dX8_kept_41 : decode cX8_kept 41 = .ok (.iload_n 3, 1) := dk_29 (dk_at dksX8_kept_1 18 rfl rfl)
theorem dX8_kept_42 : decode cX8_kept 42 = .ok (.istore 4, 2) := dk_54 4 (dk_at dksX8_kept_1 19 rfl rfl)
theorem dX8_kept_44 : decode cX8_kept 44 = .ok (.aload_n 0, 1) := dk_42 (dk_at dksX8_kept_1 21 rfl rfl)
theorem dX8_kept_45 : decode cX8_kept 45 = .ok (.dup, 1) := dk_89 (dk_at dksX8_kept_1 22 rfl rfl)
theorem dX8_kept_46 : decode cX8_kept 46 = .ok (.getfield 256, 3) := dk_180 1 0 (dk_at dksX8_kept_2 0 rfl rfl)
theorem dX8_kept_49 : decode cX8_kept 49 = .ok (.iload 4, 2) := dk_21 4 (dk_at dksX8_kept_2 3 rfl rfl)
theorem dX8_kept_51 : decode cX8_kept 51 = .ok (.iload_n 3, 1) := dk_29 (dk_at dksX8_kept_2 5 rfl rfl)
theorem dX8_kept_52 : decode cX8_kept 52 = .ok (.if_icmp .ne 7, 3) := dk_160 0 7 (dk_at dksX8_kept_2 6 rfl rfl)
theorem dX8_kept_55 : decode cX8_kept 55 = .ok (.iconst 0, 1) := dk_3 (dk_at dksX8_kept_2 9 rfl rfl)
theorem dX8_kept_56 : decode cX8_kept 56 = .ok (.goto 4, 3) := dk_167 0 4 (dk_at dksX8_kept_2 10 rfl rfl)
theorem dX8_kept_59 : decode cX8_kept 59 = .ok (.iconst 1, 1) := dk_4 (dk_at dksX8_kept_2 13 rfl rfl)
theorem dX8_kept_60 : decode cX8_kept 60 = .ok (.iadd, 1) := dk_96 (dk_at dksX8_kept_2 14 rfl rfl)
theorem dX8_kept_61 : decode cX8_kept 61 = .ok (.putfield 256, 3) := dk_181 1 0 (dk_at dksX8_kept_2 15 rfl rfl)
theorem dX8_kept_64 : decode cX8_kept 64 = .ok (.iload 4, 2) := dk_21 4 (dk_at dksX8_kept_2 18 rfl rfl)
theorem dX8_kept_66 : decode cX8_kept 66 = .ok (.ireturn, 1) := dk_172 (dk_at dksX8_kept_2 20 rfl rfl)
abbrev cX8_inserts : ByteArray := prog_20_method_14_code
def yX8_inserts : MethodName := ⟨RX8, "inserts", "(IIIIII)V"⟩
def dkwX8_inserts_7 : List UInt8 := [21, 6, 79, 42, 180, 0, 7, 27, 92, 46, 4, 96, 79, 42, 27, 182, 0, 248, 177]
abbrev dktX8_inserts_7 : List UInt8 := dkwX8_inserts_7 ++ []
def dkwX8_inserts_6 : List UInt8 := [79, 42, 180, 0, 16, 7, 21, 8, 104, 5, 96, 21, 5, 79, 42, 180, 0, 16, 7, 21, 8, 104, 6, 96]
abbrev dktX8_inserts_6 : List UInt8 := dkwX8_inserts_6 ++ dktX8_inserts_7
def dkwX8_inserts_5 : List UInt8 := [28, 79, 42, 180, 0, 16, 7, 21, 8, 104, 29, 79, 42, 180, 0, 16, 7, 21, 8, 104, 4, 96, 21, 4]
abbrev dktX8_inserts_5 : List UInt8 := dkwX8_inserts_5 ++ dktX8_inserts_6
def dkwX8_inserts_4 : List UInt8 := [167, 255, 221, 132, 7, 255, 167, 255, 164, 16, 12, 27, 104, 21, 7, 96, 54, 8, 42, 180, 0, 13, 21, 8]
abbrev dktX8_inserts_4 : List UInt8 := dkwX8_inserts_4 ++ dktX8_inserts_5
def dkwX8_inserts_3 : List UInt8 := [21, 8, 104, 21, 9, 96, 42, 180, 0, 16, 7, 21, 8, 4, 100, 104, 21, 9, 96, 46, 79, 132, 9, 1]
abbrev dktX8_inserts_3 : List UInt8 := dkwX8_inserts_3 ++ dktX8_inserts_4
def dkwX8_inserts_2 : List UInt8 := [180, 0, 13, 21, 8, 4, 100, 46, 79, 3, 54, 9, 21, 9, 7, 162, 0, 35, 42, 180, 0, 16, 7]
abbrev dktX8_inserts_2 : List UInt8 := dkwX8_inserts_2 ++ dktX8_inserts_3
def dkwX8_inserts_1 : List UInt8 := [4, 100, 46, 28, 164, 0, 75, 16, 12, 27, 104, 21, 7, 96, 54, 8, 42, 180, 0, 13, 21, 8, 42]
abbrev dktX8_inserts_1 : List UInt8 := dkwX8_inserts_1 ++ dktX8_inserts_2
def dkwX8_inserts_0 : List UInt8 := [42, 180, 0, 7, 27, 46, 54, 7, 21, 7, 158, 0, 93, 42, 180, 0, 13, 16, 12, 27, 104, 21, 7, 96]
abbrev dktX8_inserts_0 : List UInt8 := dkwX8_inserts_0 ++ dktX8_inserts_1
theorem dksX8_inserts_0 : cX8_inserts.data.toList.drop 0 = dktX8_inserts_0 := by decide +kernel
theorem dksX8_inserts_1 : cX8_inserts.data.toList.drop 24 = dktX8_inserts_1 := dk_seg dksX8_inserts_0 24 rfl rfl
theorem dksX8_inserts_2 : cX8_inserts.data.toList.drop 47 = dktX8_inserts_2 := dk_seg dksX8_inserts_1 23 rfl rfl
theorem dksX8_inserts_3 : cX8_inserts.data.toList.drop 70 = dktX8_inserts_3 := dk_seg dksX8_inserts_2 23 rfl rfl
theorem dksX8_inserts_4 : cX8_inserts.data.toList.drop 94 = dktX8_inserts_4 := dk_seg dksX8_inserts_3 24 rfl rfl
theorem dksX8_inserts_5 : cX8_inserts.data.toList.drop 118 = dktX8_inserts_5 := dk_seg dksX8_inserts_4 24 rfl rfl
theorem dksX8_inserts_6 : cX8_inserts.data.toList.drop 142 = dktX8_inserts_6 := dk_seg dksX8_inserts_5 24 rfl rfl
theorem dksX8_inserts_7 : cX8_inserts.data.toList.drop 166 = dktX8_inserts_7 := dk_seg dksX8_inserts_6 24 rfl rfl
theorem dX8_inserts_0 : decode cX8_inserts 0 = .ok (.aload_n 0, 1) := dk_42 (dk_at dksX8_inserts_0 0 rfl rfl)
theorem dX8_inserts_1 : decode cX8_inserts 1 = .ok (.getfield 7, 3) := dk_180 0 7 (dk_at dksX8_inserts_0 1 rfl rfl)
theorem dX8_inserts_4 : decode cX8_inserts 4 = .ok (.iload_n 1, 1) := dk_27 (dk_at dksX8_inserts_0 4 rfl rfl)
theorem dX8_inserts_5 : decode cX8_inserts 5 = .ok (.iaload, 1) := dk_46 (dk_at dksX8_inserts_0 5 rfl rfl)
theorem dX8_inserts_6 : decode cX8_inserts 6 = .ok (.istore 7, 2) := dk_54 7 (dk_at dksX8_inserts_0 6 rfl rfl)
theorem dX8_inserts_8 : decode cX8_inserts 8 = .ok (.iload 7, 2) := dk_21 7 (dk_at dksX8_inserts_0 8 rfl rfl)
theorem dX8_inserts_10 : decode cX8_inserts 10 = .ok (.ifCond .le 93, 3) := dk_158 0 93 (dk_at dksX8_inserts_0 10 rfl rfl)
theorem dX8_inserts_13 : decode cX8_inserts 13 = .ok (.aload_n 0, 1) := dk_42 (dk_at dksX8_inserts_0 13 rfl rfl)
theorem dX8_inserts_14 : decode cX8_inserts 14 = .ok (.getfield 13, 3) := dk_180 0 13 (dk_at dksX8_inserts_0 14 rfl rfl)
theorem dX8_inserts_17 : decode cX8_inserts 17 = .ok (.bipush 12, 2) := dk_16 12 (dk_at dksX8_inserts_0 17 rfl rfl)
theorem dX8_inserts_19 : decode cX8_inserts 19 = .ok (.iload_n 1, 1) := dk_27 (dk_at dksX8_inserts_0 19 rfl rfl)
theorem dX8_inserts_20 : decode cX8_inserts 20 = .ok (.imul, 1) := dk_104 (dk_at dksX8_inserts_0 20 rfl rfl)
theorem dX8_inserts_21 : decode cX8_inserts 21 = .ok (.iload 7, 2) := dk_21 7 (dk_at dksX8_inserts_0 21 rfl rfl)
theorem dX8_inserts_23 : decode cX8_inserts 23 = .ok (.iadd, 1) := dk_96 (dk_at dksX8_inserts_0 23 rfl rfl)
theorem dX8_inserts_24 : decode cX8_inserts 24 = .ok (.iconst 1, 1) := dk_4 (dk_at dksX8_inserts_1 0 rfl rfl)
theorem dX8_inserts_25 : decode cX8_inserts 25 = .ok (.isub, 1) := dk_100 (dk_at dksX8_inserts_1 1 rfl rfl)
theorem dX8_inserts_26 : decode cX8_inserts 26 = .ok (.iaload, 1) := dk_46 (dk_at dksX8_inserts_1 2 rfl rfl)
theorem dX8_inserts_27 : decode cX8_inserts 27 = .ok (.iload_n 2, 1) := dk_28 (dk_at dksX8_inserts_1 3 rfl rfl)
theorem dX8_inserts_28 : decode cX8_inserts 28 = .ok (.if_icmp .le 75, 3) := dk_164 0 75 (dk_at dksX8_inserts_1 4 rfl rfl)
theorem dX8_inserts_31 : decode cX8_inserts 31 = .ok (.bipush 12, 2) := dk_16 12 (dk_at dksX8_inserts_1 7 rfl rfl)
theorem dX8_inserts_33 : decode cX8_inserts 33 = .ok (.iload_n 1, 1) := dk_27 (dk_at dksX8_inserts_1 9 rfl rfl)
theorem dX8_inserts_34 : decode cX8_inserts 34 = .ok (.imul, 1) := dk_104 (dk_at dksX8_inserts_1 10 rfl rfl)
theorem dX8_inserts_35 : decode cX8_inserts 35 = .ok (.iload 7, 2) := dk_21 7 (dk_at dksX8_inserts_1 11 rfl rfl)
theorem dX8_inserts_37 : decode cX8_inserts 37 = .ok (.iadd, 1) := dk_96 (dk_at dksX8_inserts_1 13 rfl rfl)
theorem dX8_inserts_38 : decode cX8_inserts 38 = .ok (.istore 8, 2) := dk_54 8 (dk_at dksX8_inserts_1 14 rfl rfl)
theorem dX8_inserts_40 : decode cX8_inserts 40 = .ok (.aload_n 0, 1) := dk_42 (dk_at dksX8_inserts_1 16 rfl rfl)
theorem dX8_inserts_41 : decode cX8_inserts 41 = .ok (.getfield 13, 3) := dk_180 0 13 (dk_at dksX8_inserts_1 17 rfl rfl)
theorem dX8_inserts_44 : decode cX8_inserts 44 = .ok (.iload 8, 2) := dk_21 8 (dk_at dksX8_inserts_1 20 rfl rfl)
theorem dX8_inserts_46 : decode cX8_inserts 46 = .ok (.aload_n 0, 1) := dk_42 (dk_at dksX8_inserts_1 22 rfl rfl)
theorem dX8_inserts_47 : decode cX8_inserts 47 = .ok (.getfield 13, 3) := dk_180 0 13 (dk_at dksX8_inserts_2 0 rfl rfl)
theorem dX8_inserts_50 : decode cX8_inserts 50 = .ok (.iload 8, 2) := dk_21 8 (dk_at dksX8_inserts_2 3 rfl rfl)
theorem dX8_inserts_52 : decode cX8_inserts 52 = .ok (.iconst 1, 1) := dk_4 (dk_at dksX8_inserts_2 5 rfl rfl)
theorem dX8_inserts_53 : decode cX8_inserts 53 = .ok (.isub, 1) := dk_100 (dk_at dksX8_inserts_2 6 rfl rfl)
theorem dX8_inserts_54 : decode cX8_inserts 54 = .ok (.iaload, 1) := dk_46 (dk_at dksX8_inserts_2 7 rfl rfl)
theorem dX8_inserts_55 : decode cX8_inserts 55 = .ok (.iastore, 1) := dk_79 (dk_at dksX8_inserts_2 8 rfl rfl)
theorem dX8_inserts_56 : decode cX8_inserts 56 = .ok (.iconst 0, 1) := dk_3 (dk_at dksX8_inserts_2 9 rfl rfl)
theorem dX8_inserts_57 : decode cX8_inserts 57 = .ok (.istore 9, 2) := dk_54 9 (dk_at dksX8_inserts_2 10 rfl rfl)
theorem dX8_inserts_59 : decode cX8_inserts 59 = .ok (.iload 9, 2) := dk_21 9 (dk_at dksX8_inserts_2 12 rfl rfl)
theorem dX8_inserts_61 : decode cX8_inserts 61 = .ok (.iconst 4, 1) := dk_7 (dk_at dksX8_inserts_2 14 rfl rfl)
theorem dX8_inserts_62 : decode cX8_inserts 62 = .ok (.if_icmp .ge 35, 3) := dk_162 0 35 (dk_at dksX8_inserts_2 15 rfl rfl)
theorem dX8_inserts_65 : decode cX8_inserts 65 = .ok (.aload_n 0, 1) := dk_42 (dk_at dksX8_inserts_2 18 rfl rfl)
theorem dX8_inserts_66 : decode cX8_inserts 66 = .ok (.getfield 16, 3) := dk_180 0 16 (dk_at dksX8_inserts_2 19 rfl rfl)
theorem dX8_inserts_69 : decode cX8_inserts 69 = .ok (.iconst 4, 1) := dk_7 (dk_at dksX8_inserts_2 22 rfl rfl)
theorem dX8_inserts_70 : decode cX8_inserts 70 = .ok (.iload 8, 2) := dk_21 8 (dk_at dksX8_inserts_3 0 rfl rfl)
theorem dX8_inserts_72 : decode cX8_inserts 72 = .ok (.imul, 1) := dk_104 (dk_at dksX8_inserts_3 2 rfl rfl)
theorem dX8_inserts_73 : decode cX8_inserts 73 = .ok (.iload 9, 2) := dk_21 9 (dk_at dksX8_inserts_3 3 rfl rfl)
theorem dX8_inserts_75 : decode cX8_inserts 75 = .ok (.iadd, 1) := dk_96 (dk_at dksX8_inserts_3 5 rfl rfl)
theorem dX8_inserts_76 : decode cX8_inserts 76 = .ok (.aload_n 0, 1) := dk_42 (dk_at dksX8_inserts_3 6 rfl rfl)
theorem dX8_inserts_77 : decode cX8_inserts 77 = .ok (.getfield 16, 3) := dk_180 0 16 (dk_at dksX8_inserts_3 7 rfl rfl)
theorem dX8_inserts_80 : decode cX8_inserts 80 = .ok (.iconst 4, 1) := dk_7 (dk_at dksX8_inserts_3 10 rfl rfl)
theorem dX8_inserts_81 : decode cX8_inserts 81 = .ok (.iload 8, 2) := dk_21 8 (dk_at dksX8_inserts_3 11 rfl rfl)
theorem dX8_inserts_83 : decode cX8_inserts 83 = .ok (.iconst 1, 1) := dk_4 (dk_at dksX8_inserts_3 13 rfl rfl)
theorem dX8_inserts_84 : decode cX8_inserts 84 = .ok (.isub, 1) := dk_100 (dk_at dksX8_inserts_3 14 rfl rfl)
theorem dX8_inserts_85 : decode cX8_inserts 85 = .ok (.imul, 1) := dk_104 (dk_at dksX8_inserts_3 15 rfl rfl)
theorem dX8_inserts_86 : decode cX8_inserts 86 = .ok (.iload 9, 2) := dk_21 9 (dk_at dksX8_inserts_3 16 rfl rfl)
theorem dX8_inserts_88 : decode cX8_inserts 88 = .ok (.iadd, 1) := dk_96 (dk_at dksX8_inserts_3 18 rfl rfl)
theorem dX8_inserts_89 : decode cX8_inserts 89 = .ok (.iaload, 1) := dk_46 (dk_at dksX8_inserts_3 19 rfl rfl)
theorem dX8_inserts_90 : decode cX8_inserts 90 = .ok (.iastore, 1) := dk_79 (dk_at dksX8_inserts_3 20 rfl rfl)
theorem dX8_inserts_91 : decode cX8_inserts 91 = .ok (.iinc 9 1, 3) := dk_132 9 1 (dk_at dksX8_inserts_3 21 rfl rfl)
theorem dX8_inserts_94 : decode cX8_inserts 94 = .ok (.goto (-35), 3) := dk_167 255 221 (dk_at dksX8_inserts_4 0 rfl rfl)
theorem dX8_inserts_97 : decode cX8_inserts 97 = .ok (.iinc 7 (-1), 3) := dk_132 7 255 (dk_at dksX8_inserts_4 3 rfl rfl)
theorem dX8_inserts_100 : decode cX8_inserts 100 = .ok (.goto (-92), 3) := dk_167 255 164 (dk_at dksX8_inserts_4 6 rfl rfl)
theorem dX8_inserts_103 : decode cX8_inserts 103 = .ok (.bipush 12, 2) := dk_16 12 (dk_at dksX8_inserts_4 9 rfl rfl)
theorem dX8_inserts_105 : decode cX8_inserts 105 = .ok (.iload_n 1, 1) := dk_27 (dk_at dksX8_inserts_4 11 rfl rfl)
theorem dX8_inserts_106 : decode cX8_inserts 106 = .ok (.imul, 1) := dk_104 (dk_at dksX8_inserts_4 12 rfl rfl)
theorem dX8_inserts_107 : decode cX8_inserts 107 = .ok (.iload 7, 2) := dk_21 7 (dk_at dksX8_inserts_4 13 rfl rfl)
theorem dX8_inserts_109 : decode cX8_inserts 109 = .ok (.iadd, 1) := dk_96 (dk_at dksX8_inserts_4 15 rfl rfl)
theorem dX8_inserts_110 : decode cX8_inserts 110 = .ok (.istore 8, 2) := dk_54 8 (dk_at dksX8_inserts_4 16 rfl rfl)
theorem dX8_inserts_112 : decode cX8_inserts 112 = .ok (.aload_n 0, 1) := dk_42 (dk_at dksX8_inserts_4 18 rfl rfl)
theorem dX8_inserts_113 : decode cX8_inserts 113 = .ok (.getfield 13, 3) := dk_180 0 13 (dk_at dksX8_inserts_4 19 rfl rfl)
theorem dX8_inserts_116 : decode cX8_inserts 116 = .ok (.iload 8, 2) := dk_21 8 (dk_at dksX8_inserts_4 22 rfl rfl)
theorem dX8_inserts_118 : decode cX8_inserts 118 = .ok (.iload_n 2, 1) := dk_28 (dk_at dksX8_inserts_5 0 rfl rfl)
theorem dX8_inserts_119 : decode cX8_inserts 119 = .ok (.iastore, 1) := dk_79 (dk_at dksX8_inserts_5 1 rfl rfl)
theorem dX8_inserts_120 : decode cX8_inserts 120 = .ok (.aload_n 0, 1) := dk_42 (dk_at dksX8_inserts_5 2 rfl rfl)
theorem dX8_inserts_121 : decode cX8_inserts 121 = .ok (.getfield 16, 3) := dk_180 0 16 (dk_at dksX8_inserts_5 3 rfl rfl)
theorem dX8_inserts_124 : decode cX8_inserts 124 = .ok (.iconst 4, 1) := dk_7 (dk_at dksX8_inserts_5 6 rfl rfl)
theorem dX8_inserts_125 : decode cX8_inserts 125 = .ok (.iload 8, 2) := dk_21 8 (dk_at dksX8_inserts_5 7 rfl rfl)
theorem dX8_inserts_127 : decode cX8_inserts 127 = .ok (.imul, 1) := dk_104 (dk_at dksX8_inserts_5 9 rfl rfl)
theorem dX8_inserts_128 : decode cX8_inserts 128 = .ok (.iload_n 3, 1) := dk_29 (dk_at dksX8_inserts_5 10 rfl rfl)
theorem dX8_inserts_129 : decode cX8_inserts 129 = .ok (.iastore, 1) := dk_79 (dk_at dksX8_inserts_5 11 rfl rfl)
theorem dX8_inserts_130 : decode cX8_inserts 130 = .ok (.aload_n 0, 1) := dk_42 (dk_at dksX8_inserts_5 12 rfl rfl)
theorem dX8_inserts_131 : decode cX8_inserts 131 = .ok (.getfield 16, 3) := dk_180 0 16 (dk_at dksX8_inserts_5 13 rfl rfl)
theorem dX8_inserts_134 : decode cX8_inserts 134 = .ok (.iconst 4, 1) := dk_7 (dk_at dksX8_inserts_5 16 rfl rfl)
theorem dX8_inserts_135 : decode cX8_inserts 135 = .ok (.iload 8, 2) := dk_21 8 (dk_at dksX8_inserts_5 17 rfl rfl)
theorem dX8_inserts_137 : decode cX8_inserts 137 = .ok (.imul, 1) := dk_104 (dk_at dksX8_inserts_5 19 rfl rfl)
theorem dX8_inserts_138 : decode cX8_inserts 138 = .ok (.iconst 1, 1) := dk_4 (dk_at dksX8_inserts_5 20 rfl rfl)
theorem dX8_inserts_139 : decode cX8_inserts 139 = .ok (.iadd, 1) := dk_96 (dk_at dksX8_inserts_5 21 rfl rfl)
theorem dX8_inserts_140 : decode cX8_inserts 140 = .ok (.iload 4, 2) := dk_21 4 (dk_at dksX8_inserts_5 22 rfl rfl)
theorem dX8_inserts_142 : decode cX8_inserts 142 = .ok (.iastore, 1) := dk_79 (dk_at dksX8_inserts_6 0 rfl rfl)
theorem dX8_inserts_143 : decode cX8_inserts 143 = .ok (.aload_n 0, 1) := dk_42 (dk_at dksX8_inserts_6 1 rfl rfl)
theorem dX8_inserts_144 : decode cX8_inserts 144 = .ok (.getfield 16, 3) := dk_180 0 16 (dk_at dksX8_inserts_6 2 rfl rfl)
theorem dX8_inserts_147 : decode cX8_inserts 147 = .ok (.iconst 4, 1) := dk_7 (dk_at dksX8_inserts_6 5 rfl rfl)
theorem dX8_inserts_148 : decode cX8_inserts 148 = .ok (.iload 8, 2) := dk_21 8 (dk_at dksX8_inserts_6 6 rfl rfl)
theorem dX8_inserts_150 : decode cX8_inserts 150 = .ok (.imul, 1) := dk_104 (dk_at dksX8_inserts_6 8 rfl rfl)
theorem dX8_inserts_151 : decode cX8_inserts 151 = .ok (.iconst 2, 1) := dk_5 (dk_at dksX8_inserts_6 9 rfl rfl)
theorem dX8_inserts_152 : decode cX8_inserts 152 = .ok (.iadd, 1) := dk_96 (dk_at dksX8_inserts_6 10 rfl rfl)
theorem dX8_inserts_153 : decode cX8_inserts 153 = .ok (.iload 5, 2) := dk_21 5 (dk_at dksX8_inserts_6 11 rfl rfl)
theorem dX8_inserts_155 : decode cX8_inserts 155 = .ok (.iastore, 1) := dk_79 (dk_at dksX8_inserts_6 13 rfl rfl)
theorem dX8_inserts_156 : decode cX8_inserts 156 = .ok (.aload_n 0, 1) := dk_42 (dk_at dksX8_inserts_6 14 rfl rfl)
theorem dX8_inserts_157 : decode cX8_inserts 157 = .ok (.getfield 16, 3) := dk_180 0 16 (dk_at dksX8_inserts_6 15 rfl rfl)
theorem dX8_inserts_160 : decode cX8_inserts 160 = .ok (.iconst 4, 1) := dk_7 (dk_at dksX8_inserts_6 18 rfl rfl)
theorem dX8_inserts_161 : decode cX8_inserts 161 = .ok (.iload 8, 2) := dk_21 8 (dk_at dksX8_inserts_6 19 rfl rfl)
theorem dX8_inserts_163 : decode cX8_inserts 163 = .ok (.imul, 1) := dk_104 (dk_at dksX8_inserts_6 21 rfl rfl)
theorem dX8_inserts_164 : decode cX8_inserts 164 = .ok (.iconst 3, 1) := dk_6 (dk_at dksX8_inserts_6 22 rfl rfl)
theorem dX8_inserts_165 : decode cX8_inserts 165 = .ok (.iadd, 1) := dk_96 (dk_at dksX8_inserts_6 23 rfl rfl)
theorem dX8_inserts_166 : decode cX8_inserts 166 = .ok (.iload 6, 2) := dk_21 6 (dk_at dksX8_inserts_7 0 rfl rfl)
theorem dX8_inserts_168 : decode cX8_inserts 168 = .ok (.iastore, 1) := dk_79 (dk_at dksX8_inserts_7 2 rfl rfl)
theorem dX8_inserts_169 : decode cX8_inserts 169 = .ok (.aload_n 0, 1) := dk_42 (dk_at dksX8_inserts_7 3 rfl rfl)
theorem dX8_inserts_170 : decode cX8_inserts 170 = .ok (.getfield 7, 3) := dk_180 0 7 (dk_at dksX8_inserts_7 4 rfl rfl)
theorem dX8_inserts_173 : decode cX8_inserts 173 = .ok (.iload_n 1, 1) := dk_27 (dk_at dksX8_inserts_7 7 rfl rfl)
theorem dX8_inserts_174 : decode cX8_inserts 174 = .ok (.dup2, 1) := dk_92 (dk_at dksX8_inserts_7 8 rfl rfl)
theorem dX8_inserts_175 : decode cX8_inserts 175 = .ok (.iaload, 1) := dk_46 (dk_at dksX8_inserts_7 9 rfl rfl)
theorem dX8_inserts_176 : decode cX8_inserts 176 = .ok (.iconst 1, 1) := dk_4 (dk_at dksX8_inserts_7 10 rfl rfl)
theorem dX8_inserts_177 : decode cX8_inserts 177 = .ok (.iadd, 1) := dk_96 (dk_at dksX8_inserts_7 11 rfl rfl)
theorem dX8_inserts_178 : decode cX8_inserts 178 = .ok (.iastore, 1) := dk_79 (dk_at dksX8_inserts_7 12 rfl rfl)
theorem dX8_inserts_179 : decode cX8_inserts 179 = .ok (.aload_n 0, 1) := dk_42 (dk_at dksX8_inserts_7 13 rfl rfl)
theorem dX8_inserts_180 : decode cX8_inserts 180 = .ok (.iload_n 1, 1) := dk_27 (dk_at dksX8_inserts_7 14 rfl rfl)
theorem dX8_inserts_181 : decode cX8_inserts 181 = .ok (.invokevirtual 248, 3) := dk_182 0 248 (dk_at dksX8_inserts_7 15 rfl rfl)
theorem dX8_inserts_184 : decode cX8_inserts 184 = .ok (.return_, 1) := dk_177 (dk_at dksX8_inserts_7 18 rfl rfl)
abbrev cX8_writes : ByteArray := prog_20_method_13_code
def yX8_writes : MethodName := ⟨RX8, "writes", "(I)V"⟩
def dkwX8_writes_5 : List UInt8 := [28, 46, 79, 132, 2, 1, 167, 255, 153, 42, 182, 0, 245, 177]
abbrev dktX8_writes_5 : List UInt8 := dkwX8_writes_5 ++ []
def dkwX8_writes_4 : List UInt8 := [28, 46, 2, 159, 0, 13, 29, 42, 180, 0, 114, 28, 46, 162, 0, 7, 29, 167, 0, 9, 42, 180, 0, 114]
abbrev dktX8_writes_4 : List UInt8 := dkwX8_writes_4 ++ dktX8_writes_5
def dkwX8_writes_3 : List UInt8 := [180, 0, 242, 4, 100, 167, 0, 9, 42, 180, 0, 111, 28, 46, 79, 42, 180, 0, 114, 28, 42, 180, 0, 114]
abbrev dktX8_writes_3 : List UInt8 := dkwX8_writes_3 ++ dktX8_writes_4
def dkwX8_writes_2 : List UInt8 := [27, 184, 0, 220, 46, 96, 62, 42, 180, 0, 111, 28, 42, 180, 0, 111, 28, 46, 2, 160, 0, 12, 42]
abbrev dktX8_writes_2 : List UInt8 := dkwX8_writes_2 ++ dktX8_writes_3
def dkwX8_writes_1 : List UInt8 := [180, 0, 232, 162, 0, 101, 42, 180, 0, 102, 28, 46, 27, 160, 0, 85, 42, 180, 0, 235, 42, 180, 0, 28]
abbrev dktX8_writes_1 : List UInt8 := dkwX8_writes_1 ++ dktX8_writes_2
def dkwX8_writes_0 : List UInt8 := [42, 89, 180, 0, 242, 4, 96, 181, 0, 242, 42, 180, 0, 22, 27, 42, 180, 0, 242, 79, 3, 61, 28, 42]
abbrev dktX8_writes_0 : List UInt8 := dkwX8_writes_0 ++ dktX8_writes_1
theorem dksX8_writes_0 : cX8_writes.data.toList.drop 0 = dktX8_writes_0 := by decide +kernel
theorem dksX8_writes_1 : cX8_writes.data.toList.drop 24 = dktX8_writes_1 := dk_seg dksX8_writes_0 24 rfl rfl
theorem dksX8_writes_2 : cX8_writes.data.toList.drop 48 = dktX8_writes_2 := dk_seg dksX8_writes_1 24 rfl rfl
theorem dksX8_writes_3 : cX8_writes.data.toList.drop 71 = dktX8_writes_3 := dk_seg dksX8_writes_2 23 rfl rfl
theorem dksX8_writes_4 : cX8_writes.data.toList.drop 95 = dktX8_writes_4 := dk_seg dksX8_writes_3 24 rfl rfl
theorem dksX8_writes_5 : cX8_writes.data.toList.drop 119 = dktX8_writes_5 := dk_seg dksX8_writes_4 24 rfl rfl
theorem dX8_writes_0 : decode cX8_writes 0 = .ok (.aload_n 0, 1) := dk_42 (dk_at dksX8_writes_0 0 rfl rfl)
theorem dX8_writes_1 : decode cX8_writes 1 = .ok (.dup, 1) := dk_89 (dk_at dksX8_writes_0 1 rfl rfl)
theorem dX8_writes_2 : decode cX8_writes 2 = .ok (.getfield 242, 3) := dk_180 0 242 (dk_at dksX8_writes_0 2 rfl rfl)
theorem dX8_writes_5 : decode cX8_writes 5 = .ok (.iconst 1, 1) := dk_4 (dk_at dksX8_writes_0 5 rfl rfl)
theorem dX8_writes_6 : decode cX8_writes 6 = .ok (.iadd, 1) := dk_96 (dk_at dksX8_writes_0 6 rfl rfl)
theorem dX8_writes_7 : decode cX8_writes 7 = .ok (.putfield 242, 3) := dk_181 0 242 (dk_at dksX8_writes_0 7 rfl rfl)
theorem dX8_writes_10 : decode cX8_writes 10 = .ok (.aload_n 0, 1) := dk_42 (dk_at dksX8_writes_0 10 rfl rfl)
theorem dX8_writes_11 : decode cX8_writes 11 = .ok (.getfield 22, 3) := dk_180 0 22 (dk_at dksX8_writes_0 11 rfl rfl)
theorem dX8_writes_14 : decode cX8_writes 14 = .ok (.iload_n 1, 1) := dk_27 (dk_at dksX8_writes_0 14 rfl rfl)
theorem dX8_writes_15 : decode cX8_writes 15 = .ok (.aload_n 0, 1) := dk_42 (dk_at dksX8_writes_0 15 rfl rfl)
theorem dX8_writes_16 : decode cX8_writes 16 = .ok (.getfield 242, 3) := dk_180 0 242 (dk_at dksX8_writes_0 16 rfl rfl)
theorem dX8_writes_19 : decode cX8_writes 19 = .ok (.iastore, 1) := dk_79 (dk_at dksX8_writes_0 19 rfl rfl)
theorem dX8_writes_20 : decode cX8_writes 20 = .ok (.iconst 0, 1) := dk_3 (dk_at dksX8_writes_0 20 rfl rfl)
theorem dX8_writes_21 : decode cX8_writes 21 = .ok (.istore_n 2, 1) := dk_61 (dk_at dksX8_writes_0 21 rfl rfl)
theorem dX8_writes_22 : decode cX8_writes 22 = .ok (.iload_n 2, 1) := dk_28 (dk_at dksX8_writes_0 22 rfl rfl)
theorem dX8_writes_23 : decode cX8_writes 23 = .ok (.aload_n 0, 1) := dk_42 (dk_at dksX8_writes_0 23 rfl rfl)
theorem dX8_writes_24 : decode cX8_writes 24 = .ok (.getfield 232, 3) := dk_180 0 232 (dk_at dksX8_writes_1 0 rfl rfl)
theorem dX8_writes_27 : decode cX8_writes 27 = .ok (.if_icmp .ge 101, 3) := dk_162 0 101 (dk_at dksX8_writes_1 3 rfl rfl)
theorem dX8_writes_30 : decode cX8_writes 30 = .ok (.aload_n 0, 1) := dk_42 (dk_at dksX8_writes_1 6 rfl rfl)
theorem dX8_writes_31 : decode cX8_writes 31 = .ok (.getfield 102, 3) := dk_180 0 102 (dk_at dksX8_writes_1 7 rfl rfl)
theorem dX8_writes_34 : decode cX8_writes 34 = .ok (.iload_n 2, 1) := dk_28 (dk_at dksX8_writes_1 10 rfl rfl)
theorem dX8_writes_35 : decode cX8_writes 35 = .ok (.iaload, 1) := dk_46 (dk_at dksX8_writes_1 11 rfl rfl)
theorem dX8_writes_36 : decode cX8_writes 36 = .ok (.iload_n 1, 1) := dk_27 (dk_at dksX8_writes_1 12 rfl rfl)
theorem dX8_writes_37 : decode cX8_writes 37 = .ok (.if_icmp .ne 85, 3) := dk_160 0 85 (dk_at dksX8_writes_1 13 rfl rfl)
theorem dX8_writes_40 : decode cX8_writes 40 = .ok (.aload_n 0, 1) := dk_42 (dk_at dksX8_writes_1 16 rfl rfl)
theorem dX8_writes_41 : decode cX8_writes 41 = .ok (.getfield 235, 3) := dk_180 0 235 (dk_at dksX8_writes_1 17 rfl rfl)
theorem dX8_writes_44 : decode cX8_writes 44 = .ok (.aload_n 0, 1) := dk_42 (dk_at dksX8_writes_1 20 rfl rfl)
theorem dX8_writes_45 : decode cX8_writes 45 = .ok (.getfield 28, 3) := dk_180 0 28 (dk_at dksX8_writes_1 21 rfl rfl)
theorem dX8_writes_48 : decode cX8_writes 48 = .ok (.iload_n 1, 1) := dk_27 (dk_at dksX8_writes_2 0 rfl rfl)
theorem dX8_writes_49 : decode cX8_writes 49 = .ok (.invokestatic 220, 3) := dk_184 0 220 (dk_at dksX8_writes_2 1 rfl rfl)
theorem dX8_writes_52 : decode cX8_writes 52 = .ok (.iaload, 1) := dk_46 (dk_at dksX8_writes_2 4 rfl rfl)
theorem dX8_writes_53 : decode cX8_writes 53 = .ok (.iadd, 1) := dk_96 (dk_at dksX8_writes_2 5 rfl rfl)
theorem dX8_writes_54 : decode cX8_writes 54 = .ok (.istore_n 3, 1) := dk_62 (dk_at dksX8_writes_2 6 rfl rfl)
theorem dX8_writes_55 : decode cX8_writes 55 = .ok (.aload_n 0, 1) := dk_42 (dk_at dksX8_writes_2 7 rfl rfl)
theorem dX8_writes_56 : decode cX8_writes 56 = .ok (.getfield 111, 3) := dk_180 0 111 (dk_at dksX8_writes_2 8 rfl rfl)
theorem dX8_writes_59 : decode cX8_writes 59 = .ok (.iload_n 2, 1) := dk_28 (dk_at dksX8_writes_2 11 rfl rfl)
theorem dX8_writes_60 : decode cX8_writes 60 = .ok (.aload_n 0, 1) := dk_42 (dk_at dksX8_writes_2 12 rfl rfl)
theorem dX8_writes_61 : decode cX8_writes 61 = .ok (.getfield 111, 3) := dk_180 0 111 (dk_at dksX8_writes_2 13 rfl rfl)
theorem dX8_writes_64 : decode cX8_writes 64 = .ok (.iload_n 2, 1) := dk_28 (dk_at dksX8_writes_2 16 rfl rfl)
theorem dX8_writes_65 : decode cX8_writes 65 = .ok (.iaload, 1) := dk_46 (dk_at dksX8_writes_2 17 rfl rfl)
theorem dX8_writes_66 : decode cX8_writes 66 = .ok (.iconst (-1), 1) := dk_2 (dk_at dksX8_writes_2 18 rfl rfl)
theorem dX8_writes_67 : decode cX8_writes 67 = .ok (.if_icmp .ne 12, 3) := dk_160 0 12 (dk_at dksX8_writes_2 19 rfl rfl)
theorem dX8_writes_70 : decode cX8_writes 70 = .ok (.aload_n 0, 1) := dk_42 (dk_at dksX8_writes_2 22 rfl rfl)
theorem dX8_writes_71 : decode cX8_writes 71 = .ok (.getfield 242, 3) := dk_180 0 242 (dk_at dksX8_writes_3 0 rfl rfl)
theorem dX8_writes_74 : decode cX8_writes 74 = .ok (.iconst 1, 1) := dk_4 (dk_at dksX8_writes_3 3 rfl rfl)
theorem dX8_writes_75 : decode cX8_writes 75 = .ok (.isub, 1) := dk_100 (dk_at dksX8_writes_3 4 rfl rfl)
theorem dX8_writes_76 : decode cX8_writes 76 = .ok (.goto 9, 3) := dk_167 0 9 (dk_at dksX8_writes_3 5 rfl rfl)
theorem dX8_writes_79 : decode cX8_writes 79 = .ok (.aload_n 0, 1) := dk_42 (dk_at dksX8_writes_3 8 rfl rfl)
theorem dX8_writes_80 : decode cX8_writes 80 = .ok (.getfield 111, 3) := dk_180 0 111 (dk_at dksX8_writes_3 9 rfl rfl)
theorem dX8_writes_83 : decode cX8_writes 83 = .ok (.iload_n 2, 1) := dk_28 (dk_at dksX8_writes_3 12 rfl rfl)
theorem dX8_writes_84 : decode cX8_writes 84 = .ok (.iaload, 1) := dk_46 (dk_at dksX8_writes_3 13 rfl rfl)
theorem dX8_writes_85 : decode cX8_writes 85 = .ok (.iastore, 1) := dk_79 (dk_at dksX8_writes_3 14 rfl rfl)
theorem dX8_writes_86 : decode cX8_writes 86 = .ok (.aload_n 0, 1) := dk_42 (dk_at dksX8_writes_3 15 rfl rfl)
theorem dX8_writes_87 : decode cX8_writes 87 = .ok (.getfield 114, 3) := dk_180 0 114 (dk_at dksX8_writes_3 16 rfl rfl)
theorem dX8_writes_90 : decode cX8_writes 90 = .ok (.iload_n 2, 1) := dk_28 (dk_at dksX8_writes_3 19 rfl rfl)
theorem dX8_writes_91 : decode cX8_writes 91 = .ok (.aload_n 0, 1) := dk_42 (dk_at dksX8_writes_3 20 rfl rfl)
theorem dX8_writes_92 : decode cX8_writes 92 = .ok (.getfield 114, 3) := dk_180 0 114 (dk_at dksX8_writes_3 21 rfl rfl)
theorem dX8_writes_95 : decode cX8_writes 95 = .ok (.iload_n 2, 1) := dk_28 (dk_at dksX8_writes_4 0 rfl rfl)
theorem dX8_writes_96 : decode cX8_writes 96 = .ok (.iaload, 1) := dk_46 (dk_at dksX8_writes_4 1 rfl rfl)
theorem dX8_writes_97 : decode cX8_writes 97 = .ok (.iconst (-1), 1) := dk_2 (dk_at dksX8_writes_4 2 rfl rfl)
theorem dX8_writes_98 : decode cX8_writes 98 = .ok (.if_icmp .eq 13, 3) := dk_159 0 13 (dk_at dksX8_writes_4 3 rfl rfl)
theorem dX8_writes_101 : decode cX8_writes 101 = .ok (.iload_n 3, 1) := dk_29 (dk_at dksX8_writes_4 6 rfl rfl)
theorem dX8_writes_102 : decode cX8_writes 102 = .ok (.aload_n 0, 1) := dk_42 (dk_at dksX8_writes_4 7 rfl rfl)
theorem dX8_writes_103 : decode cX8_writes 103 = .ok (.getfield 114, 3) := dk_180 0 114 (dk_at dksX8_writes_4 8 rfl rfl)
theorem dX8_writes_106 : decode cX8_writes 106 = .ok (.iload_n 2, 1) := dk_28 (dk_at dksX8_writes_4 11 rfl rfl)
theorem dX8_writes_107 : decode cX8_writes 107 = .ok (.iaload, 1) := dk_46 (dk_at dksX8_writes_4 12 rfl rfl)
theorem dX8_writes_108 : decode cX8_writes 108 = .ok (.if_icmp .ge 7, 3) := dk_162 0 7 (dk_at dksX8_writes_4 13 rfl rfl)
theorem dX8_writes_111 : decode cX8_writes 111 = .ok (.iload_n 3, 1) := dk_29 (dk_at dksX8_writes_4 16 rfl rfl)
theorem dX8_writes_112 : decode cX8_writes 112 = .ok (.goto 9, 3) := dk_167 0 9 (dk_at dksX8_writes_4 17 rfl rfl)
theorem dX8_writes_115 : decode cX8_writes 115 = .ok (.aload_n 0, 1) := dk_42 (dk_at dksX8_writes_4 20 rfl rfl)
theorem dX8_writes_116 : decode cX8_writes 116 = .ok (.getfield 114, 3) := dk_180 0 114 (dk_at dksX8_writes_4 21 rfl rfl)
theorem dX8_writes_119 : decode cX8_writes 119 = .ok (.iload_n 2, 1) := dk_28 (dk_at dksX8_writes_5 0 rfl rfl)
theorem dX8_writes_120 : decode cX8_writes 120 = .ok (.iaload, 1) := dk_46 (dk_at dksX8_writes_5 1 rfl rfl)
theorem dX8_writes_121 : decode cX8_writes 121 = .ok (.iastore, 1) := dk_79 (dk_at dksX8_writes_5 2 rfl rfl)
theorem dX8_writes_122 : decode cX8_writes 122 = .ok (.iinc 2 1, 3) := dk_132 2 1 (dk_at dksX8_writes_5 3 rfl rfl)
theorem dX8_writes_125 : decode cX8_writes 125 = .ok (.goto (-103), 3) := dk_167 255 153 (dk_at dksX8_writes_5 6 rfl rfl)
theorem dX8_writes_128 : decode cX8_writes 128 = .ok (.aload_n 0, 1) := dk_42 (dk_at dksX8_writes_5 9 rfl rfl)
theorem dX8_writes_129 : decode cX8_writes 129 = .ok (.invokevirtual 245, 3) := dk_182 0 245 (dk_at dksX8_writes_5 10 rfl rfl)
theorem dX8_writes_132 : decode cX8_writes 132 = .ok (.return_, 1) := dk_177 (dk_at dksX8_writes_5 13 rfl rfl)
abbrev cX8_drops : ByteArray := prog_20_method_11_code
def yX8_drops : MethodName := ⟨RX8, "drops", "()V"⟩
def dkwX8_drops_3 : List UInt8 := [154, 0, 12, 42, 28, 27, 182, 0, 238, 132, 1, 1, 132, 2, 1, 167, 255, 175, 42, 27, 181, 0, 232, 177]
abbrev dktX8_drops_3 : List UInt8 := dkwX8_drops_3 ++ []
def dkwX8_drops_2 : List UInt8 := [180, 0, 37, 42, 180, 0, 102, 28, 46, 184, 0, 220, 46, 164, 0, 7, 4, 167, 0, 4, 3, 62, 29]
abbrev dktX8_drops_2 : List UInt8 := dkwX8_drops_2 ++ dktX8_drops_3
def dkwX8_drops_1 : List UInt8 := [180, 0, 235, 42, 180, 0, 114, 28, 46, 162, 0, 31, 42, 180, 0, 235, 42, 180, 0, 105, 28, 46, 100, 42]
abbrev dktX8_drops_1 : List UInt8 := dkwX8_drops_1 ++ dktX8_drops_2
def dkwX8_drops_0 : List UInt8 := [3, 60, 3, 61, 28, 42, 180, 0, 232, 162, 0, 79, 42, 180, 0, 114, 28, 46, 2, 159, 0, 16, 42]
abbrev dktX8_drops_0 : List UInt8 := dkwX8_drops_0 ++ dktX8_drops_1
theorem dksX8_drops_0 : cX8_drops.data.toList.drop 0 = dktX8_drops_0 := by decide +kernel
theorem dksX8_drops_1 : cX8_drops.data.toList.drop 23 = dktX8_drops_1 := dk_seg dksX8_drops_0 23 rfl rfl
theorem dksX8_drops_2 : cX8_drops.data.toList.drop 47 = dktX8_drops_2 := dk_seg dksX8_drops_1 24 rfl rfl
theorem dksX8_drops_3 : cX8_drops.data.toList.drop 70 = dktX8_drops_3 := dk_seg dksX8_drops_2 23 rfl rfl
theorem dX8_drops_0 : decode cX8_drops 0 = .ok (.iconst 0, 1) := dk_3 (dk_at dksX8_drops_0 0 rfl rfl)
theorem dX8_drops_1 : decode cX8_drops 1 = .ok (.istore_n 1, 1) := dk_60 (dk_at dksX8_drops_0 1 rfl rfl)
theorem dX8_drops_2 : decode cX8_drops 2 = .ok (.iconst 0, 1) := dk_3 (dk_at dksX8_drops_0 2 rfl rfl)
theorem dX8_drops_3 : decode cX8_drops 3 = .ok (.istore_n 2, 1) := dk_61 (dk_at dksX8_drops_0 3 rfl rfl)
theorem dX8_drops_4 : decode cX8_drops 4 = .ok (.iload_n 2, 1) := dk_28 (dk_at dksX8_drops_0 4 rfl rfl)
theorem dX8_drops_5 : decode cX8_drops 5 = .ok (.aload_n 0, 1) := dk_42 (dk_at dksX8_drops_0 5 rfl rfl)
theorem dX8_drops_6 : decode cX8_drops 6 = .ok (.getfield 232, 3) := dk_180 0 232 (dk_at dksX8_drops_0 6 rfl rfl)
theorem dX8_drops_9 : decode cX8_drops 9 = .ok (.if_icmp .ge 79, 3) := dk_162 0 79 (dk_at dksX8_drops_0 9 rfl rfl)
theorem dX8_drops_12 : decode cX8_drops 12 = .ok (.aload_n 0, 1) := dk_42 (dk_at dksX8_drops_0 12 rfl rfl)
theorem dX8_drops_13 : decode cX8_drops 13 = .ok (.getfield 114, 3) := dk_180 0 114 (dk_at dksX8_drops_0 13 rfl rfl)
theorem dX8_drops_16 : decode cX8_drops 16 = .ok (.iload_n 2, 1) := dk_28 (dk_at dksX8_drops_0 16 rfl rfl)
theorem dX8_drops_17 : decode cX8_drops 17 = .ok (.iaload, 1) := dk_46 (dk_at dksX8_drops_0 17 rfl rfl)
theorem dX8_drops_18 : decode cX8_drops 18 = .ok (.iconst (-1), 1) := dk_2 (dk_at dksX8_drops_0 18 rfl rfl)
theorem dX8_drops_19 : decode cX8_drops 19 = .ok (.if_icmp .eq 16, 3) := dk_159 0 16 (dk_at dksX8_drops_0 19 rfl rfl)
theorem dX8_drops_22 : decode cX8_drops 22 = .ok (.aload_n 0, 1) := dk_42 (dk_at dksX8_drops_0 22 rfl rfl)
theorem dX8_drops_23 : decode cX8_drops 23 = .ok (.getfield 235, 3) := dk_180 0 235 (dk_at dksX8_drops_1 0 rfl rfl)
theorem dX8_drops_26 : decode cX8_drops 26 = .ok (.aload_n 0, 1) := dk_42 (dk_at dksX8_drops_1 3 rfl rfl)
theorem dX8_drops_27 : decode cX8_drops 27 = .ok (.getfield 114, 3) := dk_180 0 114 (dk_at dksX8_drops_1 4 rfl rfl)
theorem dX8_drops_30 : decode cX8_drops 30 = .ok (.iload_n 2, 1) := dk_28 (dk_at dksX8_drops_1 7 rfl rfl)
theorem dX8_drops_31 : decode cX8_drops 31 = .ok (.iaload, 1) := dk_46 (dk_at dksX8_drops_1 8 rfl rfl)
theorem dX8_drops_32 : decode cX8_drops 32 = .ok (.if_icmp .ge 31, 3) := dk_162 0 31 (dk_at dksX8_drops_1 9 rfl rfl)
theorem dX8_drops_35 : decode cX8_drops 35 = .ok (.aload_n 0, 1) := dk_42 (dk_at dksX8_drops_1 12 rfl rfl)
theorem dX8_drops_36 : decode cX8_drops 36 = .ok (.getfield 235, 3) := dk_180 0 235 (dk_at dksX8_drops_1 13 rfl rfl)
theorem dX8_drops_39 : decode cX8_drops 39 = .ok (.aload_n 0, 1) := dk_42 (dk_at dksX8_drops_1 16 rfl rfl)
theorem dX8_drops_40 : decode cX8_drops 40 = .ok (.getfield 105, 3) := dk_180 0 105 (dk_at dksX8_drops_1 17 rfl rfl)
theorem dX8_drops_43 : decode cX8_drops 43 = .ok (.iload_n 2, 1) := dk_28 (dk_at dksX8_drops_1 20 rfl rfl)
theorem dX8_drops_44 : decode cX8_drops 44 = .ok (.iaload, 1) := dk_46 (dk_at dksX8_drops_1 21 rfl rfl)
theorem dX8_drops_45 : decode cX8_drops 45 = .ok (.isub, 1) := dk_100 (dk_at dksX8_drops_1 22 rfl rfl)
theorem dX8_drops_46 : decode cX8_drops 46 = .ok (.aload_n 0, 1) := dk_42 (dk_at dksX8_drops_1 23 rfl rfl)
theorem dX8_drops_47 : decode cX8_drops 47 = .ok (.getfield 37, 3) := dk_180 0 37 (dk_at dksX8_drops_2 0 rfl rfl)
theorem dX8_drops_50 : decode cX8_drops 50 = .ok (.aload_n 0, 1) := dk_42 (dk_at dksX8_drops_2 3 rfl rfl)
theorem dX8_drops_51 : decode cX8_drops 51 = .ok (.getfield 102, 3) := dk_180 0 102 (dk_at dksX8_drops_2 4 rfl rfl)
theorem dX8_drops_54 : decode cX8_drops 54 = .ok (.iload_n 2, 1) := dk_28 (dk_at dksX8_drops_2 7 rfl rfl)
theorem dX8_drops_55 : decode cX8_drops 55 = .ok (.iaload, 1) := dk_46 (dk_at dksX8_drops_2 8 rfl rfl)
theorem dX8_drops_56 : decode cX8_drops 56 = .ok (.invokestatic 220, 3) := dk_184 0 220 (dk_at dksX8_drops_2 9 rfl rfl)
theorem dX8_drops_59 : decode cX8_drops 59 = .ok (.iaload, 1) := dk_46 (dk_at dksX8_drops_2 12 rfl rfl)
theorem dX8_drops_60 : decode cX8_drops 60 = .ok (.if_icmp .le 7, 3) := dk_164 0 7 (dk_at dksX8_drops_2 13 rfl rfl)
theorem dX8_drops_63 : decode cX8_drops 63 = .ok (.iconst 1, 1) := dk_4 (dk_at dksX8_drops_2 16 rfl rfl)
theorem dX8_drops_64 : decode cX8_drops 64 = .ok (.goto 4, 3) := dk_167 0 4 (dk_at dksX8_drops_2 17 rfl rfl)
theorem dX8_drops_67 : decode cX8_drops 67 = .ok (.iconst 0, 1) := dk_3 (dk_at dksX8_drops_2 20 rfl rfl)
theorem dX8_drops_68 : decode cX8_drops 68 = .ok (.istore_n 3, 1) := dk_62 (dk_at dksX8_drops_2 21 rfl rfl)
theorem dX8_drops_69 : decode cX8_drops 69 = .ok (.iload_n 3, 1) := dk_29 (dk_at dksX8_drops_2 22 rfl rfl)
theorem dX8_drops_70 : decode cX8_drops 70 = .ok (.ifCond .ne 12, 3) := dk_154 0 12 (dk_at dksX8_drops_3 0 rfl rfl)
theorem dX8_drops_73 : decode cX8_drops 73 = .ok (.aload_n 0, 1) := dk_42 (dk_at dksX8_drops_3 3 rfl rfl)
theorem dX8_drops_74 : decode cX8_drops 74 = .ok (.iload_n 2, 1) := dk_28 (dk_at dksX8_drops_3 4 rfl rfl)
theorem dX8_drops_75 : decode cX8_drops 75 = .ok (.iload_n 1, 1) := dk_27 (dk_at dksX8_drops_3 5 rfl rfl)
theorem dX8_drops_76 : decode cX8_drops 76 = .ok (.invokevirtual 238, 3) := dk_182 0 238 (dk_at dksX8_drops_3 6 rfl rfl)
theorem dX8_drops_79 : decode cX8_drops 79 = .ok (.iinc 1 1, 3) := dk_132 1 1 (dk_at dksX8_drops_3 9 rfl rfl)
theorem dX8_drops_82 : decode cX8_drops 82 = .ok (.iinc 2 1, 3) := dk_132 2 1 (dk_at dksX8_drops_3 12 rfl rfl)
theorem dX8_drops_85 : decode cX8_drops 85 = .ok (.goto (-81), 3) := dk_167 255 175 (dk_at dksX8_drops_3 15 rfl rfl)
theorem dX8_drops_88 : decode cX8_drops 88 = .ok (.aload_n 0, 1) := dk_42 (dk_at dksX8_drops_3 18 rfl rfl)
theorem dX8_drops_89 : decode cX8_drops 89 = .ok (.iload_n 1, 1) := dk_27 (dk_at dksX8_drops_3 19 rfl rfl)
theorem dX8_drops_90 : decode cX8_drops 90 = .ok (.putfield 232, 3) := dk_181 0 232 (dk_at dksX8_drops_3 20 rfl rfl)
theorem dX8_drops_93 : decode cX8_drops 93 = .ok (.return_, 1) := dk_177 (dk_at dksX8_drops_3 23 rfl rfl)
abbrev cX8_moves : ByteArray := prog_20_method_12_code
def yX8_moves : MethodName := ⟨RX8, "moves", "(II)V"⟩
def dkwX8_moves_9 : List UInt8 := [7, 27, 104, 29, 96, 46, 79, 132, 3, 1, 167, 255, 188, 177]
abbrev dktX8_moves_9 : List UInt8 := dkwX8_moves_9 ++ []
def dkwX8_moves_8 : List UInt8 := [42, 180, 0, 132, 7, 27, 104, 29, 96, 46, 79, 42, 180, 0, 135, 7, 28, 104, 29, 96, 42, 180, 0, 135]
abbrev dktX8_moves_8 : List UInt8 := dkwX8_moves_8 ++ dktX8_moves_9
def dkwX8_moves_7 : List UInt8 := [28, 104, 29, 96, 42, 180, 0, 129, 7, 27, 104, 29, 96, 46, 79, 42, 180, 0, 132, 7, 28, 104, 29, 96]
abbrev dktX8_moves_7 : List UInt8 := dkwX8_moves_7 ++ dktX8_moves_8
def dkwX8_moves_6 : List UInt8 := [27, 104, 29, 96, 46, 79, 132, 3, 1, 167, 255, 225, 3, 62, 29, 7, 162, 0, 69, 42, 180, 0, 129, 7]
abbrev dktX8_moves_6 : List UInt8 := dkwX8_moves_6 ++ dktX8_moves_7
def dkwX8_moves_5 : List UInt8 := [3, 62, 29, 16, 48, 162, 0, 31, 42, 180, 0, 123, 16, 48, 28, 104, 29, 96, 42, 180, 0, 123, 16, 48]
abbrev dktX8_moves_5 : List UInt8 := dkwX8_moves_5 ++ dktX8_moves_6
def dkwX8_moves_4 : List UInt8 := [16, 12, 28, 104, 29, 96, 42, 180, 0, 120, 16, 12, 27, 104, 29, 96, 46, 79, 132, 3, 1, 167, 255, 225]
abbrev dktX8_moves_4 : List UInt8 := dkwX8_moves_4 ++ dktX8_moves_5
def dkwX8_moves_3 : List UInt8 := [42, 180, 0, 126, 28, 42, 180, 0, 126, 27, 46, 79, 3, 62, 29, 16, 12, 162, 0, 31, 42, 180, 0, 120]
abbrev dktX8_moves_3 : List UInt8 := dkwX8_moves_3 ++ dktX8_moves_4
def dkwX8_moves_2 : List UInt8 := [42, 180, 0, 114, 28, 42, 180, 0, 114, 27, 46, 79, 42, 180, 0, 117, 28, 42, 180, 0, 117, 27, 46, 79]
abbrev dktX8_moves_2 : List UInt8 := dkwX8_moves_2 ++ dktX8_moves_3
def dkwX8_moves_1 : List UInt8 := [42, 180, 0, 108, 28, 42, 180, 0, 108, 27, 46, 79, 42, 180, 0, 111, 28, 42, 180, 0, 111, 27, 46, 79]
abbrev dktX8_moves_1 : List UInt8 := dkwX8_moves_1 ++ dktX8_moves_2
def dkwX8_moves_0 : List UInt8 := [42, 180, 0, 102, 28, 42, 180, 0, 102, 27, 46, 79, 42, 180, 0, 105, 28, 42, 180, 0, 105, 27, 46, 79]
abbrev dktX8_moves_0 : List UInt8 := dkwX8_moves_0 ++ dktX8_moves_1
theorem dksX8_moves_0 : cX8_moves.data.toList.drop 0 = dktX8_moves_0 := by decide +kernel
theorem dksX8_moves_1 : cX8_moves.data.toList.drop 24 = dktX8_moves_1 := dk_seg dksX8_moves_0 24 rfl rfl
theorem dksX8_moves_2 : cX8_moves.data.toList.drop 48 = dktX8_moves_2 := dk_seg dksX8_moves_1 24 rfl rfl
theorem dksX8_moves_3 : cX8_moves.data.toList.drop 72 = dktX8_moves_3 := dk_seg dksX8_moves_2 24 rfl rfl
theorem dksX8_moves_4 : cX8_moves.data.toList.drop 96 = dktX8_moves_4 := dk_seg dksX8_moves_3 24 rfl rfl
theorem dksX8_moves_5 : cX8_moves.data.toList.drop 120 = dktX8_moves_5 := dk_seg dksX8_moves_4 24 rfl rfl
theorem dksX8_moves_6 : cX8_moves.data.toList.drop 144 = dktX8_moves_6 := dk_seg dksX8_moves_5 24 rfl rfl
theorem dksX8_moves_7 : cX8_moves.data.toList.drop 168 = dktX8_moves_7 := dk_seg dksX8_moves_6 24 rfl rfl
theorem dksX8_moves_8 : cX8_moves.data.toList.drop 192 = dktX8_moves_8 := dk_seg dksX8_moves_7 24 rfl rfl
theorem dksX8_moves_9 : cX8_moves.data.toList.drop 216 = dktX8_moves_9 := dk_seg dksX8_moves_8 24 rfl rfl
theorem dX8_moves_0 : decode cX8_moves 0 = .ok (.aload_n 0, 1) := dk_42 (dk_at dksX8_moves_0 0 rfl rfl)
theorem dX8_moves_1 : decode cX8_moves 1 = .ok (.getfield 102, 3) := dk_180 0 102 (dk_at dksX8_moves_0 1 rfl rfl)
theorem dX8_moves_4 : decode cX8_moves 4 = .ok (.iload_n 2, 1) := dk_28 (dk_at dksX8_moves_0 4 rfl rfl)
theorem dX8_moves_5 : decode cX8_moves 5 = .ok (.aload_n 0, 1) := dk_42 (dk_at dksX8_moves_0 5 rfl rfl)
theorem dX8_moves_6 : decode cX8_moves 6 = .ok (.getfield 102, 3) := dk_180 0 102 (dk_at dksX8_moves_0 6 rfl rfl)
theorem dX8_moves_9 : decode cX8_moves 9 = .ok (.iload_n 1, 1) := dk_27 (dk_at dksX8_moves_0 9 rfl rfl)
theorem dX8_moves_10 : decode cX8_moves 10 = .ok (.iaload, 1) := dk_46 (dk_at dksX8_moves_0 10 rfl rfl)
theorem dX8_moves_11 : decode cX8_moves 11 = .ok (.iastore, 1) := dk_79 (dk_at dksX8_moves_0 11 rfl rfl)
theorem dX8_moves_12 : decode cX8_moves 12 = .ok (.aload_n 0, 1) := dk_42 (dk_at dksX8_moves_0 12 rfl rfl)
theorem dX8_moves_13 : decode cX8_moves 13 = .ok (.getfield 105, 3) := dk_180 0 105 (dk_at dksX8_moves_0 13 rfl rfl)
theorem dX8_moves_16 : decode cX8_moves 16 = .ok (.iload_n 2, 1) := dk_28 (dk_at dksX8_moves_0 16 rfl rfl)
theorem dX8_moves_17 : decode cX8_moves 17 = .ok (.aload_n 0, 1) := dk_42 (dk_at dksX8_moves_0 17 rfl rfl)
theorem dX8_moves_18 : decode cX8_moves 18 = .ok (.getfield 105, 3) := dk_180 0 105 (dk_at dksX8_moves_0 18 rfl rfl)
theorem dX8_moves_21 : decode cX8_moves 21 = .ok (.iload_n 1, 1) := dk_27 (dk_at dksX8_moves_0 21 rfl rfl)
theorem dX8_moves_22 : decode cX8_moves 22 = .ok (.iaload, 1) := dk_46 (dk_at dksX8_moves_0 22 rfl rfl)
theorem dX8_moves_23 : decode cX8_moves 23 = .ok (.iastore, 1) := dk_79 (dk_at dksX8_moves_0 23 rfl rfl)
theorem dX8_moves_24 : decode cX8_moves 24 = .ok (.aload_n 0, 1) := dk_42 (dk_at dksX8_moves_1 0 rfl rfl)
theorem dX8_moves_25 : decode cX8_moves 25 = .ok (.getfield 108, 3) := dk_180 0 108 (dk_at dksX8_moves_1 1 rfl rfl)
theorem dX8_moves_28 : decode cX8_moves 28 = .ok (.iload_n 2, 1) := dk_28 (dk_at dksX8_moves_1 4 rfl rfl)
theorem dX8_moves_29 : decode cX8_moves 29 = .ok (.aload_n 0, 1) := dk_42 (dk_at dksX8_moves_1 5 rfl rfl)
theorem dX8_moves_30 : decode cX8_moves 30 = .ok (.getfield 108, 3) := dk_180 0 108 (dk_at dksX8_moves_1 6 rfl rfl)
theorem dX8_moves_33 : decode cX8_moves 33 = .ok (.iload_n 1, 1) := dk_27 (dk_at dksX8_moves_1 9 rfl rfl)
theorem dX8_moves_34 : decode cX8_moves 34 = .ok (.iaload, 1) := dk_46 (dk_at dksX8_moves_1 10 rfl rfl)
theorem dX8_moves_35 : decode cX8_moves 35 = .ok (.iastore, 1) := dk_79 (dk_at dksX8_moves_1 11 rfl rfl)
theorem dX8_moves_36 : decode cX8_moves 36 = .ok (.aload_n 0, 1) := dk_42 (dk_at dksX8_moves_1 12 rfl rfl)
theorem dX8_moves_37 : decode cX8_moves 37 = .ok (.getfield 111, 3) := dk_180 0 111 (dk_at dksX8_moves_1 13 rfl rfl)
theorem dX8_moves_40 : decode cX8_moves 40 = .ok (.iload_n 2, 1) := dk_28 (dk_at dksX8_moves_1 16 rfl rfl)
theorem dX8_moves_41 : decode cX8_moves 41 = .ok (.aload_n 0, 1) := dk_42 (dk_at dksX8_moves_1 17 rfl rfl)
theorem dX8_moves_42 : decode cX8_moves 42 = .ok (.getfield 111, 3) := dk_180 0 111 (dk_at dksX8_moves_1 18 rfl rfl)
theorem dX8_moves_45 : decode cX8_moves 45 = .ok (.iload_n 1, 1) := dk_27 (dk_at dksX8_moves_1 21 rfl rfl)
theorem dX8_moves_46 : decode cX8_moves 46 = .ok (.iaload, 1) := dk_46 (dk_at dksX8_moves_1 22 rfl rfl)
theorem dX8_moves_47 : decode cX8_moves 47 = .ok (.iastore, 1) := dk_79 (dk_at dksX8_moves_1 23 rfl rfl)
theorem dX8_moves_48 : decode cX8_moves 48 = .ok (.aload_n 0, 1) := dk_42 (dk_at dksX8_moves_2 0 rfl rfl)
theorem dX8_moves_49 : decode cX8_moves 49 = .ok (.getfield 114, 3) := dk_180 0 114 (dk_at dksX8_moves_2 1 rfl rfl)
theorem dX8_moves_52 : decode cX8_moves 52 = .ok (.iload_n 2, 1) := dk_28 (dk_at dksX8_moves_2 4 rfl rfl)
theorem dX8_moves_53 : decode cX8_moves 53 = .ok (.aload_n 0, 1) := dk_42 (dk_at dksX8_moves_2 5 rfl rfl)
theorem dX8_moves_54 : decode cX8_moves 54 = .ok (.getfield 114, 3) := dk_180 0 114 (dk_at dksX8_moves_2 6 rfl rfl)
theorem dX8_moves_57 : decode cX8_moves 57 = .ok (.iload_n 1, 1) := dk_27 (dk_at dksX8_moves_2 9 rfl rfl)
theorem dX8_moves_58 : decode cX8_moves 58 = .ok (.iaload, 1) := dk_46 (dk_at dksX8_moves_2 10 rfl rfl)
theorem dX8_moves_59 : decode cX8_moves 59 = .ok (.iastore, 1) := dk_79 (dk_at dksX8_moves_2 11 rfl rfl)
theorem dX8_moves_60 : decode cX8_moves 60 = .ok (.aload_n 0, 1) := dk_42 (dk_at dksX8_moves_2 12 rfl rfl)
theorem dX8_moves_61 : decode cX8_moves 61 = .ok (.getfield 117, 3) := dk_180 0 117 (dk_at dksX8_moves_2 13 rfl rfl)
theorem dX8_moves_64 : decode cX8_moves 64 = .ok (.iload_n 2, 1) := dk_28 (dk_at dksX8_moves_2 16 rfl rfl)
theorem dX8_moves_65 : decode cX8_moves 65 = .ok (.aload_n 0, 1) := dk_42 (dk_at dksX8_moves_2 17 rfl rfl)
theorem dX8_moves_66 : decode cX8_moves 66 = .ok (.getfield 117, 3) := dk_180 0 117 (dk_at dksX8_moves_2 18 rfl rfl)
theorem dX8_moves_69 : decode cX8_moves 69 = .ok (.iload_n 1, 1) := dk_27 (dk_at dksX8_moves_2 21 rfl rfl)
theorem dX8_moves_70 : decode cX8_moves 70 = .ok (.iaload, 1) := dk_46 (dk_at dksX8_moves_2 22 rfl rfl)
theorem dX8_moves_71 : decode cX8_moves 71 = .ok (.iastore, 1) := dk_79 (dk_at dksX8_moves_2 23 rfl rfl)
theorem dX8_moves_72 : decode cX8_moves 72 = .ok (.aload_n 0, 1) := dk_42 (dk_at dksX8_moves_3 0 rfl rfl)
theorem dX8_moves_73 : decode cX8_moves 73 = .ok (.getfield 126, 3) := dk_180 0 126 (dk_at dksX8_moves_3 1 rfl rfl)
theorem dX8_moves_76 : decode cX8_moves 76 = .ok (.iload_n 2, 1) := dk_28 (dk_at dksX8_moves_3 4 rfl rfl)
theorem dX8_moves_77 : decode cX8_moves 77 = .ok (.aload_n 0, 1) := dk_42 (dk_at dksX8_moves_3 5 rfl rfl)
theorem dX8_moves_78 : decode cX8_moves 78 = .ok (.getfield 126, 3) := dk_180 0 126 (dk_at dksX8_moves_3 6 rfl rfl)
theorem dX8_moves_81 : decode cX8_moves 81 = .ok (.iload_n 1, 1) := dk_27 (dk_at dksX8_moves_3 9 rfl rfl)
theorem dX8_moves_82 : decode cX8_moves 82 = .ok (.iaload, 1) := dk_46 (dk_at dksX8_moves_3 10 rfl rfl)
theorem dX8_moves_83 : decode cX8_moves 83 = .ok (.iastore, 1) := dk_79 (dk_at dksX8_moves_3 11 rfl rfl)
theorem dX8_moves_84 : decode cX8_moves 84 = .ok (.iconst 0, 1) := dk_3 (dk_at dksX8_moves_3 12 rfl rfl)
theorem dX8_moves_85 : decode cX8_moves 85 = .ok (.istore_n 3, 1) := dk_62 (dk_at dksX8_moves_3 13 rfl rfl)
theorem dX8_moves_86 : decode cX8_moves 86 = .ok (.iload_n 3, 1) := dk_29 (dk_at dksX8_moves_3 14 rfl rfl)
theorem dX8_moves_87 : decode cX8_moves 87 = .ok (.bipush 12, 2) := dk_16 12 (dk_at dksX8_moves_3 15 rfl rfl)
theorem dX8_moves_89 : decode cX8_moves 89 = .ok (.if_icmp .ge 31, 3) := dk_162 0 31 (dk_at dksX8_moves_3 17 rfl rfl)
theorem dX8_moves_92 : decode cX8_moves 92 = .ok (.aload_n 0, 1) := dk_42 (dk_at dksX8_moves_3 20 rfl rfl)
theorem dX8_moves_93 : decode cX8_moves 93 = .ok (.getfield 120, 3) := dk_180 0 120 (dk_at dksX8_moves_3 21 rfl rfl)
theorem dX8_moves_96 : decode cX8_moves 96 = .ok (.bipush 12, 2) := dk_16 12 (dk_at dksX8_moves_4 0 rfl rfl)
theorem dX8_moves_98 : decode cX8_moves 98 = .ok (.iload_n 2, 1) := dk_28 (dk_at dksX8_moves_4 2 rfl rfl)
theorem dX8_moves_99 : decode cX8_moves 99 = .ok (.imul, 1) := dk_104 (dk_at dksX8_moves_4 3 rfl rfl)
theorem dX8_moves_100 : decode cX8_moves 100 = .ok (.iload_n 3, 1) := dk_29 (dk_at dksX8_moves_4 4 rfl rfl)
theorem dX8_moves_101 : decode cX8_moves 101 = .ok (.iadd, 1) := dk_96 (dk_at dksX8_moves_4 5 rfl rfl)
theorem dX8_moves_102 : decode cX8_moves 102 = .ok (.aload_n 0, 1) := dk_42 (dk_at dksX8_moves_4 6 rfl rfl)
theorem dX8_moves_103 : decode cX8_moves 103 = .ok (.getfield 120, 3) := dk_180 0 120 (dk_at dksX8_moves_4 7 rfl rfl)
theorem dX8_moves_106 : decode cX8_moves 106 = .ok (.bipush 12, 2) := dk_16 12 (dk_at dksX8_moves_4 10 rfl rfl)
theorem dX8_moves_108 : decode cX8_moves 108 = .ok (.iload_n 1, 1) := dk_27 (dk_at dksX8_moves_4 12 rfl rfl)
theorem dX8_moves_109 : decode cX8_moves 109 = .ok (.imul, 1) := dk_104 (dk_at dksX8_moves_4 13 rfl rfl)
theorem dX8_moves_110 : decode cX8_moves 110 = .ok (.iload_n 3, 1) := dk_29 (dk_at dksX8_moves_4 14 rfl rfl)
theorem dX8_moves_111 : decode cX8_moves 111 = .ok (.iadd, 1) := dk_96 (dk_at dksX8_moves_4 15 rfl rfl)
theorem dX8_moves_112 : decode cX8_moves 112 = .ok (.iaload, 1) := dk_46 (dk_at dksX8_moves_4 16 rfl rfl)
theorem dX8_moves_113 : decode cX8_moves 113 = .ok (.iastore, 1) := dk_79 (dk_at dksX8_moves_4 17 rfl rfl)
theorem dX8_moves_114 : decode cX8_moves 114 = .ok (.iinc 3 1, 3) := dk_132 3 1 (dk_at dksX8_moves_4 18 rfl rfl)
theorem dX8_moves_117 : decode cX8_moves 117 = .ok (.goto (-31), 3) := dk_167 255 225 (dk_at dksX8_moves_4 21 rfl rfl)
theorem dX8_moves_120 : decode cX8_moves 120 = .ok (.iconst 0, 1) := dk_3 (dk_at dksX8_moves_5 0 rfl rfl)
theorem dX8_moves_121 : decode cX8_moves 121 = .ok (.istore_n 3, 1) := dk_62 (dk_at dksX8_moves_5 1 rfl rfl)
theorem dX8_moves_122 : decode cX8_moves 122 = .ok (.iload_n 3, 1) := dk_29 (dk_at dksX8_moves_5 2 rfl rfl)
theorem dX8_moves_123 : decode cX8_moves 123 = .ok (.bipush 48, 2) := dk_16 48 (dk_at dksX8_moves_5 3 rfl rfl)
theorem dX8_moves_125 : decode cX8_moves 125 = .ok (.if_icmp .ge 31, 3) := dk_162 0 31 (dk_at dksX8_moves_5 5 rfl rfl)
theorem dX8_moves_128 : decode cX8_moves 128 = .ok (.aload_n 0, 1) := dk_42 (dk_at dksX8_moves_5 8 rfl rfl)
theorem dX8_moves_129 : decode cX8_moves 129 = .ok (.getfield 123, 3) := dk_180 0 123 (dk_at dksX8_moves_5 9 rfl rfl)
theorem dX8_moves_132 : decode cX8_moves 132 = .ok (.bipush 48, 2) := dk_16 48 (dk_at dksX8_moves_5 12 rfl rfl)
theorem dX8_moves_134 : decode cX8_moves 134 = .ok (.iload_n 2, 1) := dk_28 (dk_at dksX8_moves_5 14 rfl rfl)
theorem dX8_moves_135 : decode cX8_moves 135 = .ok (.imul, 1) := dk_104 (dk_at dksX8_moves_5 15 rfl rfl)
theorem dX8_moves_136 : decode cX8_moves 136 = .ok (.iload_n 3, 1) := dk_29 (dk_at dksX8_moves_5 16 rfl rfl)
theorem dX8_moves_137 : decode cX8_moves 137 = .ok (.iadd, 1) := dk_96 (dk_at dksX8_moves_5 17 rfl rfl)
theorem dX8_moves_138 : decode cX8_moves 138 = .ok (.aload_n 0, 1) := dk_42 (dk_at dksX8_moves_5 18 rfl rfl)
theorem dX8_moves_139 : decode cX8_moves 139 = .ok (.getfield 123, 3) := dk_180 0 123 (dk_at dksX8_moves_5 19 rfl rfl)
theorem dX8_moves_142 : decode cX8_moves 142 = .ok (.bipush 48, 2) := dk_16 48 (dk_at dksX8_moves_5 22 rfl rfl)
theorem dX8_moves_144 : decode cX8_moves 144 = .ok (.iload_n 1, 1) := dk_27 (dk_at dksX8_moves_6 0 rfl rfl)
theorem dX8_moves_145 : decode cX8_moves 145 = .ok (.imul, 1) := dk_104 (dk_at dksX8_moves_6 1 rfl rfl)
theorem dX8_moves_146 : decode cX8_moves 146 = .ok (.iload_n 3, 1) := dk_29 (dk_at dksX8_moves_6 2 rfl rfl)
theorem dX8_moves_147 : decode cX8_moves 147 = .ok (.iadd, 1) := dk_96 (dk_at dksX8_moves_6 3 rfl rfl)
theorem dX8_moves_148 : decode cX8_moves 148 = .ok (.iaload, 1) := dk_46 (dk_at dksX8_moves_6 4 rfl rfl)
theorem dX8_moves_149 : decode cX8_moves 149 = .ok (.iastore, 1) := dk_79 (dk_at dksX8_moves_6 5 rfl rfl)
theorem dX8_moves_150 : decode cX8_moves 150 = .ok (.iinc 3 1, 3) := dk_132 3 1 (dk_at dksX8_moves_6 6 rfl rfl)
theorem dX8_moves_153 : decode cX8_moves 153 = .ok (.goto (-31), 3) := dk_167 255 225 (dk_at dksX8_moves_6 9 rfl rfl)
theorem dX8_moves_156 : decode cX8_moves 156 = .ok (.iconst 0, 1) := dk_3 (dk_at dksX8_moves_6 12 rfl rfl)
theorem dX8_moves_157 : decode cX8_moves 157 = .ok (.istore_n 3, 1) := dk_62 (dk_at dksX8_moves_6 13 rfl rfl)
theorem dX8_moves_158 : decode cX8_moves 158 = .ok (.iload_n 3, 1) := dk_29 (dk_at dksX8_moves_6 14 rfl rfl)
theorem dX8_moves_159 : decode cX8_moves 159 = .ok (.iconst 4, 1) := dk_7 (dk_at dksX8_moves_6 15 rfl rfl)
theorem dX8_moves_160 : decode cX8_moves 160 = .ok (.if_icmp .ge 69, 3) := dk_162 0 69 (dk_at dksX8_moves_6 16 rfl rfl)
theorem dX8_moves_163 : decode cX8_moves 163 = .ok (.aload_n 0, 1) := dk_42 (dk_at dksX8_moves_6 19 rfl rfl)
theorem dX8_moves_164 : decode cX8_moves 164 = .ok (.getfield 129, 3) := dk_180 0 129 (dk_at dksX8_moves_6 20 rfl rfl)
theorem dX8_moves_167 : decode cX8_moves 167 = .ok (.iconst 4, 1) := dk_7 (dk_at dksX8_moves_6 23 rfl rfl)
theorem dX8_moves_168 : decode cX8_moves 168 = .ok (.iload_n 2, 1) := dk_28 (dk_at dksX8_moves_7 0 rfl rfl)
theorem dX8_moves_169 : decode cX8_moves 169 = .ok (.imul, 1) := dk_104 (dk_at dksX8_moves_7 1 rfl rfl)
theorem dX8_moves_170 : decode cX8_moves 170 = .ok (.iload_n 3, 1) := dk_29 (dk_at dksX8_moves_7 2 rfl rfl)
theorem dX8_moves_171 : decode cX8_moves 171 = .ok (.iadd, 1) := dk_96 (dk_at dksX8_moves_7 3 rfl rfl)
theorem dX8_moves_172 : decode cX8_moves 172 = .ok (.aload_n 0, 1) := dk_42 (dk_at dksX8_moves_7 4 rfl rfl)
theorem dX8_moves_173 : decode cX8_moves 173 = .ok (.getfield 129, 3) := dk_180 0 129 (dk_at dksX8_moves_7 5 rfl rfl)
theorem dX8_moves_176 : decode cX8_moves 176 = .ok (.iconst 4, 1) := dk_7 (dk_at dksX8_moves_7 8 rfl rfl)
theorem dX8_moves_177 : decode cX8_moves 177 = .ok (.iload_n 1, 1) := dk_27 (dk_at dksX8_moves_7 9 rfl rfl)
theorem dX8_moves_178 : decode cX8_moves 178 = .ok (.imul, 1) := dk_104 (dk_at dksX8_moves_7 10 rfl rfl)
theorem dX8_moves_179 : decode cX8_moves 179 = .ok (.iload_n 3, 1) := dk_29 (dk_at dksX8_moves_7 11 rfl rfl)
theorem dX8_moves_180 : decode cX8_moves 180 = .ok (.iadd, 1) := dk_96 (dk_at dksX8_moves_7 12 rfl rfl)
theorem dX8_moves_181 : decode cX8_moves 181 = .ok (.iaload, 1) := dk_46 (dk_at dksX8_moves_7 13 rfl rfl)
theorem dX8_moves_182 : decode cX8_moves 182 = .ok (.iastore, 1) := dk_79 (dk_at dksX8_moves_7 14 rfl rfl)
theorem dX8_moves_183 : decode cX8_moves 183 = .ok (.aload_n 0, 1) := dk_42 (dk_at dksX8_moves_7 15 rfl rfl)
theorem dX8_moves_184 : decode cX8_moves 184 = .ok (.getfield 132, 3) := dk_180 0 132 (dk_at dksX8_moves_7 16 rfl rfl)
theorem dX8_moves_187 : decode cX8_moves 187 = .ok (.iconst 4, 1) := dk_7 (dk_at dksX8_moves_7 19 rfl rfl)
theorem dX8_moves_188 : decode cX8_moves 188 = .ok (.iload_n 2, 1) := dk_28 (dk_at dksX8_moves_7 20 rfl rfl)
theorem dX8_moves_189 : decode cX8_moves 189 = .ok (.imul, 1) := dk_104 (dk_at dksX8_moves_7 21 rfl rfl)
theorem dX8_moves_190 : decode cX8_moves 190 = .ok (.iload_n 3, 1) := dk_29 (dk_at dksX8_moves_7 22 rfl rfl)
theorem dX8_moves_191 : decode cX8_moves 191 = .ok (.iadd, 1) := dk_96 (dk_at dksX8_moves_7 23 rfl rfl)
theorem dX8_moves_192 : decode cX8_moves 192 = .ok (.aload_n 0, 1) := dk_42 (dk_at dksX8_moves_8 0 rfl rfl)
theorem dX8_moves_193 : decode cX8_moves 193 = .ok (.getfield 132, 3) := dk_180 0 132 (dk_at dksX8_moves_8 1 rfl rfl)
theorem dX8_moves_196 : decode cX8_moves 196 = .ok (.iconst 4, 1) := dk_7 (dk_at dksX8_moves_8 4 rfl rfl)
theorem dX8_moves_197 : decode cX8_moves 197 = .ok (.iload_n 1, 1) := dk_27 (dk_at dksX8_moves_8 5 rfl rfl)
theorem dX8_moves_198 : decode cX8_moves 198 = .ok (.imul, 1) := dk_104 (dk_at dksX8_moves_8 6 rfl rfl)
theorem dX8_moves_199 : decode cX8_moves 199 = .ok (.iload_n 3, 1) := dk_29 (dk_at dksX8_moves_8 7 rfl rfl)
theorem dX8_moves_200 : decode cX8_moves 200 = .ok (.iadd, 1) := dk_96 (dk_at dksX8_moves_8 8 rfl rfl)
theorem dX8_moves_201 : decode cX8_moves 201 = .ok (.iaload, 1) := dk_46 (dk_at dksX8_moves_8 9 rfl rfl)
theorem dX8_moves_202 : decode cX8_moves 202 = .ok (.iastore, 1) := dk_79 (dk_at dksX8_moves_8 10 rfl rfl)
theorem dX8_moves_203 : decode cX8_moves 203 = .ok (.aload_n 0, 1) := dk_42 (dk_at dksX8_moves_8 11 rfl rfl)
theorem dX8_moves_204 : decode cX8_moves 204 = .ok (.getfield 135, 3) := dk_180 0 135 (dk_at dksX8_moves_8 12 rfl rfl)
theorem dX8_moves_207 : decode cX8_moves 207 = .ok (.iconst 4, 1) := dk_7 (dk_at dksX8_moves_8 15 rfl rfl)
theorem dX8_moves_208 : decode cX8_moves 208 = .ok (.iload_n 2, 1) := dk_28 (dk_at dksX8_moves_8 16 rfl rfl)
theorem dX8_moves_209 : decode cX8_moves 209 = .ok (.imul, 1) := dk_104 (dk_at dksX8_moves_8 17 rfl rfl)
theorem dX8_moves_210 : decode cX8_moves 210 = .ok (.iload_n 3, 1) := dk_29 (dk_at dksX8_moves_8 18 rfl rfl)
theorem dX8_moves_211 : decode cX8_moves 211 = .ok (.iadd, 1) := dk_96 (dk_at dksX8_moves_8 19 rfl rfl)
theorem dX8_moves_212 : decode cX8_moves 212 = .ok (.aload_n 0, 1) := dk_42 (dk_at dksX8_moves_8 20 rfl rfl)
theorem dX8_moves_213 : decode cX8_moves 213 = .ok (.getfield 135, 3) := dk_180 0 135 (dk_at dksX8_moves_8 21 rfl rfl)
theorem dX8_moves_216 : decode cX8_moves 216 = .ok (.iconst 4, 1) := dk_7 (dk_at dksX8_moves_9 0 rfl rfl)
theorem dX8_moves_217 : decode cX8_moves 217 = .ok (.iload_n 1, 1) := dk_27 (dk_at dksX8_moves_9 1 rfl rfl)
theorem dX8_moves_218 : decode cX8_moves 218 = .ok (.imul, 1) := dk_104 (dk_at dksX8_moves_9 2 rfl rfl)
theorem dX8_moves_219 : decode cX8_moves 219 = .ok (.iload_n 3, 1) := dk_29 (dk_at dksX8_moves_9 3 rfl rfl)
theorem dX8_moves_220 : decode cX8_moves 220 = .ok (.iadd, 1) := dk_96 (dk_at dksX8_moves_9 4 rfl rfl)
theorem dX8_moves_221 : decode cX8_moves 221 = .ok (.iaload, 1) := dk_46 (dk_at dksX8_moves_9 5 rfl rfl)
theorem dX8_moves_222 : decode cX8_moves 222 = .ok (.iastore, 1) := dk_79 (dk_at dksX8_moves_9 6 rfl rfl)
theorem dX8_moves_223 : decode cX8_moves 223 = .ok (.iinc 3 1, 3) := dk_132 3 1 (dk_at dksX8_moves_9 7 rfl rfl)
theorem dX8_moves_226 : decode cX8_moves 226 = .ok (.goto (-68), 3) := dk_167 255 188 (dk_at dksX8_moves_9 10 rfl rfl)
theorem dX8_moves_229 : decode cX8_moves 229 = .ok (.return_, 1) := dk_177 (dk_at dksX8_moves_9 13 rfl rfl)
abbrev cX8_change : ByteArray := prog_20_method_22_code
def yX8_change : MethodName := ⟨RX8, "change", "(IIII)I"⟩
def dkwX8_change_2 : List UInt8 := [182, 1, 28, 172]
abbrev dktX8_change_2 : List UInt8 := dkwX8_change_2 ++ []
def dkwX8_change_1 : List UInt8 := [42, 180, 0, 213, 158, 0, 7, 3, 167, 0, 18, 42, 27, 28, 29, 42, 27, 29, 21, 4, 182, 1, 6]
abbrev dktX8_change_1 : List UInt8 := dkwX8_change_1 ++ dktX8_change_2
def dkwX8_change_0 : List UInt8 := [42, 27, 184, 1, 14, 154, 0, 7, 4, 167, 0, 12, 42, 27, 28, 29, 21, 4, 182, 1, 24, 181, 0, 213]
abbrev dktX8_change_0 : List UInt8 := dkwX8_change_0 ++ dktX8_change_1
theorem dksX8_change_0 : cX8_change.data.toList.drop 0 = dktX8_change_0 := by decide +kernel
theorem dksX8_change_1 : cX8_change.data.toList.drop 24 = dktX8_change_1 := dk_seg dksX8_change_0 24 rfl rfl
theorem dksX8_change_2 : cX8_change.data.toList.drop 47 = dktX8_change_2 := dk_seg dksX8_change_1 23 rfl rfl
theorem dX8_change_0 : decode cX8_change 0 = .ok (.aload_n 0, 1) := dk_42 (dk_at dksX8_change_0 0 rfl rfl)
theorem dX8_change_1 : decode cX8_change 1 = .ok (.iload_n 1, 1) := dk_27 (dk_at dksX8_change_0 1 rfl rfl)
theorem dX8_change_2 : decode cX8_change 2 = .ok (.invokestatic 270, 3) := dk_184 1 14 (dk_at dksX8_change_0 2 rfl rfl)
theorem dX8_change_5 : decode cX8_change 5 = .ok (.ifCond .ne 7, 3) := dk_154 0 7 (dk_at dksX8_change_0 5 rfl rfl)
theorem dX8_change_8 : decode cX8_change 8 = .ok (.iconst 1, 1) := dk_4 (dk_at dksX8_change_0 8 rfl rfl)
theorem dX8_change_9 : decode cX8_change 9 = .ok (.goto 12, 3) := dk_167 0 12 (dk_at dksX8_change_0 9 rfl rfl)
theorem dX8_change_12 : decode cX8_change 12 = .ok (.aload_n 0, 1) := dk_42 (dk_at dksX8_change_0 12 rfl rfl)
theorem dX8_change_13 : decode cX8_change 13 = .ok (.iload_n 1, 1) := dk_27 (dk_at dksX8_change_0 13 rfl rfl)
theorem dX8_change_14 : decode cX8_change 14 = .ok (.iload_n 2, 1) := dk_28 (dk_at dksX8_change_0 14 rfl rfl)
theorem dX8_change_15 : decode cX8_change 15 = .ok (.iload_n 3, 1) := dk_29 (dk_at dksX8_change_0 15 rfl rfl)
theorem dX8_change_16 : decode cX8_change 16 = .ok (.iload 4, 2) := dk_21 4 (dk_at dksX8_change_0 16 rfl rfl)
theorem dX8_change_18 : decode cX8_change 18 = .ok (.invokevirtual 280, 3) := dk_182 1 24 (dk_at dksX8_change_0 18 rfl rfl)
theorem dX8_change_21 : decode cX8_change 21 = .ok (.putfield 213, 3) := dk_181 0 213 (dk_at dksX8_change_0 21 rfl rfl)
theorem dX8_change_24 : decode cX8_change 24 = .ok (.aload_n 0, 1) := dk_42 (dk_at dksX8_change_1 0 rfl rfl)
theorem dX8_change_25 : decode cX8_change 25 = .ok (.getfield 213, 3) := dk_180 0 213 (dk_at dksX8_change_1 1 rfl rfl)
theorem dX8_change_28 : decode cX8_change 28 = .ok (.ifCond .le 7, 3) := dk_158 0 7 (dk_at dksX8_change_1 4 rfl rfl)
theorem dX8_change_31 : decode cX8_change 31 = .ok (.iconst 0, 1) := dk_3 (dk_at dksX8_change_1 7 rfl rfl)
theorem dX8_change_32 : decode cX8_change 32 = .ok (.goto 18, 3) := dk_167 0 18 (dk_at dksX8_change_1 8 rfl rfl)
theorem dX8_change_35 : decode cX8_change 35 = .ok (.aload_n 0, 1) := dk_42 (dk_at dksX8_change_1 11 rfl rfl)
theorem dX8_change_36 : decode cX8_change 36 = .ok (.iload_n 1, 1) := dk_27 (dk_at dksX8_change_1 12 rfl rfl)
theorem dX8_change_37 : decode cX8_change 37 = .ok (.iload_n 2, 1) := dk_28 (dk_at dksX8_change_1 13 rfl rfl)
theorem dX8_change_38 : decode cX8_change 38 = .ok (.iload_n 3, 1) := dk_29 (dk_at dksX8_change_1 14 rfl rfl)
theorem dX8_change_39 : decode cX8_change 39 = .ok (.aload_n 0, 1) := dk_42 (dk_at dksX8_change_1 15 rfl rfl)
theorem dX8_change_40 : decode cX8_change 40 = .ok (.iload_n 1, 1) := dk_27 (dk_at dksX8_change_1 16 rfl rfl)
theorem dX8_change_41 : decode cX8_change 41 = .ok (.iload_n 3, 1) := dk_29 (dk_at dksX8_change_1 17 rfl rfl)
theorem dX8_change_42 : decode cX8_change 42 = .ok (.iload 4, 2) := dk_21 4 (dk_at dksX8_change_1 18 rfl rfl)
theorem dX8_change_44 : decode cX8_change 44 = .ok (.invokevirtual 262, 3) := dk_182 1 6 (dk_at dksX8_change_1 20 rfl rfl)
theorem dX8_change_47 : decode cX8_change 47 = .ok (.invokevirtual 284, 3) := dk_182 1 28 (dk_at dksX8_change_2 0 rfl rfl)
theorem dX8_change_50 : decode cX8_change 50 = .ok (.ireturn, 1) := dk_172 (dk_at dksX8_change_2 3 rfl rfl)
abbrev cX8_canChange : ByteArray := prog_20_method_20_code
def yX8_canChange : MethodName := ⟨RX8, "canChange", "(IIII)I"⟩
def dkwX8_canChange_1 : List UInt8 := [164, 0, 7, 29, 153, 0, 13, 27, 29, 21, 4, 184, 1, 3, 154, 0, 7, 5, 167, 0, 4, 3, 172]
abbrev dktX8_canChange_1 : List UInt8 := dkwX8_canChange_1 ++ []
def dkwX8_canChange_0 : List UInt8 := [42, 27, 28, 182, 0, 252, 2, 159, 0, 11, 27, 29, 184, 0, 224, 154, 0, 5, 4, 172, 27, 4]
abbrev dktX8_canChange_0 : List UInt8 := dkwX8_canChange_0 ++ dktX8_canChange_1
theorem dksX8_canChange_0 : cX8_canChange.data.toList.drop 0 = dktX8_canChange_0 := by decide +kernel
theorem dksX8_canChange_1 : cX8_canChange.data.toList.drop 22 = dktX8_canChange_1 := dk_seg dksX8_canChange_0 22 rfl rfl
theorem dX8_canChange_0 : decode cX8_canChange 0 = .ok (.aload_n 0, 1) := dk_42 (dk_at dksX8_canChange_0 0 rfl rfl)
theorem dX8_canChange_1 : decode cX8_canChange 1 = .ok (.iload_n 1, 1) := dk_27 (dk_at dksX8_canChange_0 1 rfl rfl)
theorem dX8_canChange_2 : decode cX8_canChange 2 = .ok (.iload_n 2, 1) := dk_28 (dk_at dksX8_canChange_0 2 rfl rfl)
theorem dX8_canChange_3 : decode cX8_canChange 3 = .ok (.invokevirtual 252, 3) := dk_182 0 252 (dk_at dksX8_canChange_0 3 rfl rfl)
theorem dX8_canChange_6 : decode cX8_canChange 6 = .ok (.iconst (-1), 1) := dk_2 (dk_at dksX8_canChange_0 6 rfl rfl)
theorem dX8_canChange_7 : decode cX8_canChange 7 = .ok (.if_icmp .eq 11, 3) := dk_159 0 11 (dk_at dksX8_canChange_0 7 rfl rfl)
theorem dX8_canChange_10 : decode cX8_canChange 10 = .ok (.iload_n 1, 1) := dk_27 (dk_at dksX8_canChange_0 10 rfl rfl)
theorem dX8_canChange_11 : decode cX8_canChange 11 = .ok (.iload_n 3, 1) := dk_29 (dk_at dksX8_canChange_0 11 rfl rfl)
theorem dX8_canChange_12 : decode cX8_canChange 12 = .ok (.invokestatic 224, 3) := dk_184 0 224 (dk_at dksX8_canChange_0 12 rfl rfl)
theorem dX8_canChange_15 : decode cX8_canChange 15 = .ok (.ifCond .ne 5, 3) := dk_154 0 5 (dk_at dksX8_canChange_0 15 rfl rfl)
theorem dX8_canChange_18 : decode cX8_canChange 18 = .ok (.iconst 1, 1) := dk_4 (dk_at dksX8_canChange_0 18 rfl rfl)
theorem dX8_canChange_19 : decode cX8_canChange 19 = .ok (.ireturn, 1) := dk_172 (dk_at dksX8_canChange_0 19 rfl rfl)
theorem dX8_canChange_20 : decode cX8_canChange 20 = .ok (.iload_n 1, 1) := dk_27 (dk_at dksX8_canChange_0 20 rfl rfl)
theorem dX8_canChange_21 : decode cX8_canChange 21 = .ok (.iconst 1, 1) := dk_4 (dk_at dksX8_canChange_0 21 rfl rfl)
theorem dX8_canChange_22 : decode cX8_canChange 22 = .ok (.if_icmp .le 7, 3) := dk_164 0 7 (dk_at dksX8_canChange_1 0 rfl rfl)
theorem dX8_canChange_25 : decode cX8_canChange 25 = .ok (.iload_n 3, 1) := dk_29 (dk_at dksX8_canChange_1 3 rfl rfl)
theorem dX8_canChange_26 : decode cX8_canChange 26 = .ok (.ifCond .eq 13, 3) := dk_153 0 13 (dk_at dksX8_canChange_1 4 rfl rfl)
theorem dX8_canChange_29 : decode cX8_canChange 29 = .ok (.iload_n 1, 1) := dk_27 (dk_at dksX8_canChange_1 7 rfl rfl)
theorem dX8_canChange_30 : decode cX8_canChange 30 = .ok (.iload_n 3, 1) := dk_29 (dk_at dksX8_canChange_1 8 rfl rfl)
theorem dX8_canChange_31 : decode cX8_canChange 31 = .ok (.iload 4, 2) := dk_21 4 (dk_at dksX8_canChange_1 9 rfl rfl)
theorem dX8_canChange_33 : decode cX8_canChange 33 = .ok (.invokestatic 259, 3) := dk_184 1 3 (dk_at dksX8_canChange_1 11 rfl rfl)
theorem dX8_canChange_36 : decode cX8_canChange 36 = .ok (.ifCond .ne 7, 3) := dk_154 0 7 (dk_at dksX8_canChange_1 14 rfl rfl)
theorem dX8_canChange_39 : decode cX8_canChange 39 = .ok (.iconst 2, 1) := dk_5 (dk_at dksX8_canChange_1 17 rfl rfl)
theorem dX8_canChange_40 : decode cX8_canChange 40 = .ok (.goto 4, 3) := dk_167 0 4 (dk_at dksX8_canChange_1 18 rfl rfl)
theorem dX8_canChange_43 : decode cX8_canChange 43 = .ok (.iconst 0, 1) := dk_3 (dk_at dksX8_canChange_1 21 rfl rfl)
theorem dX8_canChange_44 : decode cX8_canChange 44 = .ok (.ireturn, 1) := dk_172 (dk_at dksX8_canChange_1 22 rfl rfl)
abbrev cX8_puts : ByteArray := prog_20_method_21_code
def yX8_puts : MethodName := ⟨RX8, "puts", "(IIII)I"⟩
def dkwX8_puts_1 : List UInt8 := [54, 6, 42, 180, 0, 16, 21, 5, 21, 4, 79, 42, 27, 182, 0, 248, 21, 6, 172]
abbrev dktX8_puts_1 : List UInt8 := dkwX8_puts_1 ++ []
def dkwX8_puts_0 : List UInt8 := [7, 16, 12, 27, 104, 42, 27, 28, 182, 0, 252, 96, 104, 29, 96, 54, 5, 42, 180, 0, 16, 21, 5, 46]
abbrev dktX8_puts_0 : List UInt8 := dkwX8_puts_0 ++ dktX8_puts_1
theorem dksX8_puts_0 : cX8_puts.data.toList.drop 0 = dktX8_puts_0 := by decide +kernel
theorem dksX8_puts_1 : cX8_puts.data.toList.drop 24 = dktX8_puts_1 := dk_seg dksX8_puts_0 24 rfl rfl
theorem dX8_puts_0 : decode cX8_puts 0 = .ok (.iconst 4, 1) := dk_7 (dk_at dksX8_puts_0 0 rfl rfl)
theorem dX8_puts_1 : decode cX8_puts 1 = .ok (.bipush 12, 2) := dk_16 12 (dk_at dksX8_puts_0 1 rfl rfl)
theorem dX8_puts_3 : decode cX8_puts 3 = .ok (.iload_n 1, 1) := dk_27 (dk_at dksX8_puts_0 3 rfl rfl)
theorem dX8_puts_4 : decode cX8_puts 4 = .ok (.imul, 1) := dk_104 (dk_at dksX8_puts_0 4 rfl rfl)
theorem dX8_puts_5 : decode cX8_puts 5 = .ok (.aload_n 0, 1) := dk_42 (dk_at dksX8_puts_0 5 rfl rfl)
theorem dX8_puts_6 : decode cX8_puts 6 = .ok (.iload_n 1, 1) := dk_27 (dk_at dksX8_puts_0 6 rfl rfl)
theorem dX8_puts_7 : decode cX8_puts 7 = .ok (.iload_n 2, 1) := dk_28 (dk_at dksX8_puts_0 7 rfl rfl)
theorem dX8_puts_8 : decode cX8_puts 8 = .ok (.invokevirtual 252, 3) := dk_182 0 252 (dk_at dksX8_puts_0 8 rfl rfl)
theorem dX8_puts_11 : decode cX8_puts 11 = .ok (.iadd, 1) := dk_96 (dk_at dksX8_puts_0 11 rfl rfl)
theorem dX8_puts_12 : decode cX8_puts 12 = .ok (.imul, 1) := dk_104 (dk_at dksX8_puts_0 12 rfl rfl)
theorem dX8_puts_13 : decode cX8_puts 13 = .ok (.iload_n 3, 1) := dk_29 (dk_at dksX8_puts_0 13 rfl rfl)
theorem dX8_puts_14 : decode cX8_puts 14 = .ok (.iadd, 1) := dk_96 (dk_at dksX8_puts_0 14 rfl rfl)
theorem dX8_puts_15 : decode cX8_puts 15 = .ok (.istore 5, 2) := dk_54 5 (dk_at dksX8_puts_0 15 rfl rfl)
theorem dX8_puts_17 : decode cX8_puts 17 = .ok (.aload_n 0, 1) := dk_42 (dk_at dksX8_puts_0 17 rfl rfl)
theorem dX8_puts_18 : decode cX8_puts 18 = .ok (.getfield 16, 3) := dk_180 0 16 (dk_at dksX8_puts_0 18 rfl rfl)
theorem dX8_puts_21 : decode cX8_puts 21 = .ok (.iload 5, 2) := dk_21 5 (dk_at dksX8_puts_0 21 rfl rfl)
theorem dX8_puts_23 : decode cX8_puts 23 = .ok (.iaload, 1) := dk_46 (dk_at dksX8_puts_0 23 rfl rfl)
theorem dX8_puts_24 : decode cX8_puts 24 = .ok (.istore 6, 2) := dk_54 6 (dk_at dksX8_puts_1 0 rfl rfl)
theorem dX8_puts_26 : decode cX8_puts 26 = .ok (.aload_n 0, 1) := dk_42 (dk_at dksX8_puts_1 2 rfl rfl)
theorem dX8_puts_27 : decode cX8_puts 27 = .ok (.getfield 16, 3) := dk_180 0 16 (dk_at dksX8_puts_1 3 rfl rfl)
theorem dX8_puts_30 : decode cX8_puts 30 = .ok (.iload 5, 2) := dk_21 5 (dk_at dksX8_puts_1 6 rfl rfl)
theorem dX8_puts_32 : decode cX8_puts 32 = .ok (.iload 4, 2) := dk_21 4 (dk_at dksX8_puts_1 8 rfl rfl)
theorem dX8_puts_34 : decode cX8_puts 34 = .ok (.iastore, 1) := dk_79 (dk_at dksX8_puts_1 10 rfl rfl)
theorem dX8_puts_35 : decode cX8_puts 35 = .ok (.aload_n 0, 1) := dk_42 (dk_at dksX8_puts_1 11 rfl rfl)
theorem dX8_puts_36 : decode cX8_puts 36 = .ok (.iload_n 1, 1) := dk_27 (dk_at dksX8_puts_1 12 rfl rfl)
theorem dX8_puts_37 : decode cX8_puts 37 = .ok (.invokevirtual 248, 3) := dk_182 0 248 (dk_at dksX8_puts_1 13 rfl rfl)
theorem dX8_puts_40 : decode cX8_puts 40 = .ok (.iload 6, 2) := dk_21 6 (dk_at dksX8_puts_1 16 rfl rfl)
theorem dX8_puts_42 : decode cX8_puts 42 = .ok (.ireturn, 1) := dk_172 (dk_at dksX8_puts_1 18 rfl rfl)
abbrev cX8_remove : ByteArray := prog_20_method_23_code
def yX8_remove : MethodName := ⟨RX8, "remove", "(II)I"⟩
def dkwX8_remove_2 : List UInt8 := [172]
abbrev dktX8_remove_2 : List UInt8 := dkwX8_remove_2 ++ []
def dkwX8_remove_1 : List UInt8 := [181, 0, 213, 42, 180, 0, 213, 158, 0, 5, 3, 172, 42, 27, 28, 182, 1, 31, 42, 180, 0, 7, 27, 46]
abbrev dktX8_remove_1 : List UInt8 := dkwX8_remove_1 ++ dktX8_remove_2
def dkwX8_remove_0 : List UInt8 := [42, 27, 184, 1, 14, 153, 0, 13, 42, 27, 28, 182, 0, 252, 2, 160, 0, 7, 4, 167, 0, 4, 3]
abbrev dktX8_remove_0 : List UInt8 := dkwX8_remove_0 ++ dktX8_remove_1
theorem dksX8_remove_0 : cX8_remove.data.toList.drop 0 = dktX8_remove_0 := by decide +kernel
theorem dksX8_remove_1 : cX8_remove.data.toList.drop 23 = dktX8_remove_1 := dk_seg dksX8_remove_0 23 rfl rfl
theorem dksX8_remove_2 : cX8_remove.data.toList.drop 47 = dktX8_remove_2 := dk_seg dksX8_remove_1 24 rfl rfl
theorem dX8_remove_0 : decode cX8_remove 0 = .ok (.aload_n 0, 1) := dk_42 (dk_at dksX8_remove_0 0 rfl rfl)
theorem dX8_remove_1 : decode cX8_remove 1 = .ok (.iload_n 1, 1) := dk_27 (dk_at dksX8_remove_0 1 rfl rfl)
theorem dX8_remove_2 : decode cX8_remove 2 = .ok (.invokestatic 270, 3) := dk_184 1 14 (dk_at dksX8_remove_0 2 rfl rfl)
theorem dX8_remove_5 : decode cX8_remove 5 = .ok (.ifCond .eq 13, 3) := dk_153 0 13 (dk_at dksX8_remove_0 5 rfl rfl)
theorem dX8_remove_8 : decode cX8_remove 8 = .ok (.aload_n 0, 1) := dk_42 (dk_at dksX8_remove_0 8 rfl rfl)
theorem dX8_remove_9 : decode cX8_remove 9 = .ok (.iload_n 1, 1) := dk_27 (dk_at dksX8_remove_0 9 rfl rfl)
theorem dX8_remove_10 : decode cX8_remove 10 = .ok (.iload_n 2, 1) := dk_28 (dk_at dksX8_remove_0 10 rfl rfl)
theorem dX8_remove_11 : decode cX8_remove 11 = .ok (.invokevirtual 252, 3) := dk_182 0 252 (dk_at dksX8_remove_0 11 rfl rfl)
theorem dX8_remove_14 : decode cX8_remove 14 = .ok (.iconst (-1), 1) := dk_2 (dk_at dksX8_remove_0 14 rfl rfl)
theorem dX8_remove_15 : decode cX8_remove 15 = .ok (.if_icmp .ne 7, 3) := dk_160 0 7 (dk_at dksX8_remove_0 15 rfl rfl)
theorem dX8_remove_18 : decode cX8_remove 18 = .ok (.iconst 1, 1) := dk_4 (dk_at dksX8_remove_0 18 rfl rfl)
theorem dX8_remove_19 : decode cX8_remove 19 = .ok (.goto 4, 3) := dk_167 0 4 (dk_at dksX8_remove_0 19 rfl rfl)
theorem dX8_remove_22 : decode cX8_remove 22 = .ok (.iconst 0, 1) := dk_3 (dk_at dksX8_remove_0 22 rfl rfl)
theorem dX8_remove_23 : decode cX8_remove 23 = .ok (.putfield 213, 3) := dk_181 0 213 (dk_at dksX8_remove_1 0 rfl rfl)
theorem dX8_remove_26 : decode cX8_remove 26 = .ok (.aload_n 0, 1) := dk_42 (dk_at dksX8_remove_1 3 rfl rfl)
theorem dX8_remove_27 : decode cX8_remove 27 = .ok (.getfield 213, 3) := dk_180 0 213 (dk_at dksX8_remove_1 4 rfl rfl)
theorem dX8_remove_30 : decode cX8_remove 30 = .ok (.ifCond .le 5, 3) := dk_158 0 5 (dk_at dksX8_remove_1 7 rfl rfl)
theorem dX8_remove_33 : decode cX8_remove 33 = .ok (.iconst 0, 1) := dk_3 (dk_at dksX8_remove_1 10 rfl rfl)
theorem dX8_remove_34 : decode cX8_remove 34 = .ok (.ireturn, 1) := dk_172 (dk_at dksX8_remove_1 11 rfl rfl)
theorem dX8_remove_35 : decode cX8_remove 35 = .ok (.aload_n 0, 1) := dk_42 (dk_at dksX8_remove_1 12 rfl rfl)
theorem dX8_remove_36 : decode cX8_remove 36 = .ok (.iload_n 1, 1) := dk_27 (dk_at dksX8_remove_1 13 rfl rfl)
theorem dX8_remove_37 : decode cX8_remove 37 = .ok (.iload_n 2, 1) := dk_28 (dk_at dksX8_remove_1 14 rfl rfl)
theorem dX8_remove_38 : decode cX8_remove 38 = .ok (.invokevirtual 287, 3) := dk_182 1 31 (dk_at dksX8_remove_1 15 rfl rfl)
theorem dX8_remove_41 : decode cX8_remove 41 = .ok (.aload_n 0, 1) := dk_42 (dk_at dksX8_remove_1 18 rfl rfl)
theorem dX8_remove_42 : decode cX8_remove 42 = .ok (.getfield 7, 3) := dk_180 0 7 (dk_at dksX8_remove_1 19 rfl rfl)
theorem dX8_remove_45 : decode cX8_remove 45 = .ok (.iload_n 1, 1) := dk_27 (dk_at dksX8_remove_1 22 rfl rfl)
theorem dX8_remove_46 : decode cX8_remove 46 = .ok (.iaload, 1) := dk_46 (dk_at dksX8_remove_1 23 rfl rfl)
theorem dX8_remove_47 : decode cX8_remove 47 = .ok (.ireturn, 1) := dk_172 (dk_at dksX8_remove_2 0 rfl rfl)
abbrev cX8_takesOut : ByteArray := prog_20_method_15_code
def yX8_takesOut : MethodName := ⟨RX8, "takesOut", "(II)V"⟩
def dkwX8_takesOut_4 : List UInt8 := [167, 255, 221, 132, 4, 1, 167, 255, 176, 42, 27, 182, 0, 248, 177]
abbrev dktX8_takesOut_4 : List UInt8 := dkwX8_takesOut_4 ++ []
def dkwX8_takesOut_3 : List UInt8 := [21, 5, 104, 21, 6, 96, 42, 180, 0, 16, 7, 21, 5, 4, 96, 104, 21, 6, 96, 46, 79, 132, 6, 1]
abbrev dktX8_takesOut_3 : List UInt8 := dkwX8_takesOut_3 ++ dktX8_takesOut_4
def dkwX8_takesOut_2 : List UInt8 := [180, 0, 13, 21, 5, 4, 96, 46, 79, 3, 54, 6, 21, 6, 7, 162, 0, 35, 42, 180, 0, 16, 7]
abbrev dktX8_takesOut_2 : List UInt8 := dkwX8_takesOut_2 ++ dktX8_takesOut_3
def dkwX8_takesOut_1 : List UInt8 := [180, 0, 7, 27, 46, 162, 0, 75, 16, 12, 27, 104, 21, 4, 96, 54, 5, 42, 180, 0, 13, 21, 5, 42]
abbrev dktX8_takesOut_1 : List UInt8 := dkwX8_takesOut_1 ++ dktX8_takesOut_2
def dkwX8_takesOut_0 : List UInt8 := [42, 27, 28, 182, 0, 252, 62, 42, 180, 0, 7, 27, 92, 46, 4, 100, 79, 29, 54, 4, 21, 4, 42]
abbrev dktX8_takesOut_0 : List UInt8 := dkwX8_takesOut_0 ++ dktX8_takesOut_1
theorem dksX8_takesOut_0 : cX8_takesOut.data.toList.drop 0 = dktX8_takesOut_0 := by decide +kernel
theorem dksX8_takesOut_1 : cX8_takesOut.data.toList.drop 23 = dktX8_takesOut_1 := dk_seg dksX8_takesOut_0 23 rfl rfl
theorem dksX8_takesOut_2 : cX8_takesOut.data.toList.drop 47 = dktX8_takesOut_2 := dk_seg dksX8_takesOut_1 24 rfl rfl
theorem dksX8_takesOut_3 : cX8_takesOut.data.toList.drop 70 = dktX8_takesOut_3 := dk_seg dksX8_takesOut_2 23 rfl rfl
theorem dksX8_takesOut_4 : cX8_takesOut.data.toList.drop 94 = dktX8_takesOut_4 := dk_seg dksX8_takesOut_3 24 rfl rfl
theorem dX8_takesOut_0 : decode cX8_takesOut 0 = .ok (.aload_n 0, 1) := dk_42 (dk_at dksX8_takesOut_0 0 rfl rfl)
theorem dX8_takesOut_1 : decode cX8_takesOut 1 = .ok (.iload_n 1, 1) := dk_27 (dk_at dksX8_takesOut_0 1 rfl rfl)
theorem dX8_takesOut_2 : decode cX8_takesOut 2 = .ok (.iload_n 2, 1) := dk_28 (dk_at dksX8_takesOut_0 2 rfl rfl)
theorem dX8_takesOut_3 : decode cX8_takesOut 3 = .ok (.invokevirtual 252, 3) := dk_182 0 252 (dk_at dksX8_takesOut_0 3 rfl rfl)
theorem dX8_takesOut_6 : decode cX8_takesOut 6 = .ok (.istore_n 3, 1) := dk_62 (dk_at dksX8_takesOut_0 6 rfl rfl)
theorem dX8_takesOut_7 : decode cX8_takesOut 7 = .ok (.aload_n 0, 1) := dk_42 (dk_at dksX8_takesOut_0 7 rfl rfl)
theorem dX8_takesOut_8 : decode cX8_takesOut 8 = .ok (.getfield 7, 3) := dk_180 0 7 (dk_at dksX8_takesOut_0 8 rfl rfl)
theorem dX8_takesOut_11 : decode cX8_takesOut 11 = .ok (.iload_n 1, 1) := dk_27 (dk_at dksX8_takesOut_0 11 rfl rfl)
theorem dX8_takesOut_12 : decode cX8_takesOut 12 = .ok (.dup2, 1) := dk_92 (dk_at dksX8_takesOut_0 12 rfl rfl)
theorem dX8_takesOut_13 : decode cX8_takesOut 13 = .ok (.iaload, 1) := dk_46 (dk_at dksX8_takesOut_0 13 rfl rfl)
theorem dX8_takesOut_14 : decode cX8_takesOut 14 = .ok (.iconst 1, 1) := dk_4 (dk_at dksX8_takesOut_0 14 rfl rfl)
theorem dX8_takesOut_15 : decode cX8_takesOut 15 = .ok (.isub, 1) := dk_100 (dk_at dksX8_takesOut_0 15 rfl rfl)
theorem dX8_takesOut_16 : decode cX8_takesOut 16 = .ok (.iastore, 1) := dk_79 (dk_at dksX8_takesOut_0 16 rfl rfl)
theorem dX8_takesOut_17 : decode cX8_takesOut 17 = .ok (.iload_n 3, 1) := dk_29 (dk_at dksX8_takesOut_0 17 rfl rfl)
theorem dX8_takesOut_18 : decode cX8_takesOut 18 = .ok (.istore 4, 2) := dk_54 4 (dk_at dksX8_takesOut_0 18 rfl rfl)
theorem dX8_takesOut_20 : decode cX8_takesOut 20 = .ok (.iload 4, 2) := dk_21 4 (dk_at dksX8_takesOut_0 20 rfl rfl)
theorem dX8_takesOut_22 : decode cX8_takesOut 22 = .ok (.aload_n 0, 1) := dk_42 (dk_at dksX8_takesOut_0 22 rfl rfl)
theorem dX8_takesOut_23 : decode cX8_takesOut 23 = .ok (.getfield 7, 3) := dk_180 0 7 (dk_at dksX8_takesOut_1 0 rfl rfl)
theorem dX8_takesOut_26 : decode cX8_takesOut 26 = .ok (.iload_n 1, 1) := dk_27 (dk_at dksX8_takesOut_1 3 rfl rfl)
theorem dX8_takesOut_27 : decode cX8_takesOut 27 = .ok (.iaload, 1) := dk_46 (dk_at dksX8_takesOut_1 4 rfl rfl)
theorem dX8_takesOut_28 : decode cX8_takesOut 28 = .ok (.if_icmp .ge 75, 3) := dk_162 0 75 (dk_at dksX8_takesOut_1 5 rfl rfl)
theorem dX8_takesOut_31 : decode cX8_takesOut 31 = .ok (.bipush 12, 2) := dk_16 12 (dk_at dksX8_takesOut_1 8 rfl rfl)
theorem dX8_takesOut_33 : decode cX8_takesOut 33 = .ok (.iload_n 1, 1) := dk_27 (dk_at dksX8_takesOut_1 10 rfl rfl)
theorem dX8_takesOut_34 : decode cX8_takesOut 34 = .ok (.imul, 1) := dk_104 (dk_at dksX8_takesOut_1 11 rfl rfl)
theorem dX8_takesOut_35 : decode cX8_takesOut 35 = .ok (.iload 4, 2) := dk_21 4 (dk_at dksX8_takesOut_1 12 rfl rfl)
theorem dX8_takesOut_37 : decode cX8_takesOut 37 = .ok (.iadd, 1) := dk_96 (dk_at dksX8_takesOut_1 14 rfl rfl)
theorem dX8_takesOut_38 : decode cX8_takesOut 38 = .ok (.istore 5, 2) := dk_54 5 (dk_at dksX8_takesOut_1 15 rfl rfl)
theorem dX8_takesOut_40 : decode cX8_takesOut 40 = .ok (.aload_n 0, 1) := dk_42 (dk_at dksX8_takesOut_1 17 rfl rfl)
theorem dX8_takesOut_41 : decode cX8_takesOut 41 = .ok (.getfield 13, 3) := dk_180 0 13 (dk_at dksX8_takesOut_1 18 rfl rfl)
theorem dX8_takesOut_44 : decode cX8_takesOut 44 = .ok (.iload 5, 2) := dk_21 5 (dk_at dksX8_takesOut_1 21 rfl rfl)
theorem dX8_takesOut_46 : decode cX8_takesOut 46 = .ok (.aload_n 0, 1) := dk_42 (dk_at dksX8_takesOut_1 23 rfl rfl)
theorem dX8_takesOut_47 : decode cX8_takesOut 47 = .ok (.getfield 13, 3) := dk_180 0 13 (dk_at dksX8_takesOut_2 0 rfl rfl)
theorem dX8_takesOut_50 : decode cX8_takesOut 50 = .ok (.iload 5, 2) := dk_21 5 (dk_at dksX8_takesOut_2 3 rfl rfl)
theorem dX8_takesOut_52 : decode cX8_takesOut 52 = .ok (.iconst 1, 1) := dk_4 (dk_at dksX8_takesOut_2 5 rfl rfl)
theorem dX8_takesOut_53 : decode cX8_takesOut 53 = .ok (.iadd, 1) := dk_96 (dk_at dksX8_takesOut_2 6 rfl rfl)
theorem dX8_takesOut_54 : decode cX8_takesOut 54 = .ok (.iaload, 1) := dk_46 (dk_at dksX8_takesOut_2 7 rfl rfl)
theorem dX8_takesOut_55 : decode cX8_takesOut 55 = .ok (.iastore, 1) := dk_79 (dk_at dksX8_takesOut_2 8 rfl rfl)
theorem dX8_takesOut_56 : decode cX8_takesOut 56 = .ok (.iconst 0, 1) := dk_3 (dk_at dksX8_takesOut_2 9 rfl rfl)
theorem dX8_takesOut_57 : decode cX8_takesOut 57 = .ok (.istore 6, 2) := dk_54 6 (dk_at dksX8_takesOut_2 10 rfl rfl)
theorem dX8_takesOut_59 : decode cX8_takesOut 59 = .ok (.iload 6, 2) := dk_21 6 (dk_at dksX8_takesOut_2 12 rfl rfl)
theorem dX8_takesOut_61 : decode cX8_takesOut 61 = .ok (.iconst 4, 1) := dk_7 (dk_at dksX8_takesOut_2 14 rfl rfl)
theorem dX8_takesOut_62 : decode cX8_takesOut 62 = .ok (.if_icmp .ge 35, 3) := dk_162 0 35 (dk_at dksX8_takesOut_2 15 rfl rfl)
theorem dX8_takesOut_65 : decode cX8_takesOut 65 = .ok (.aload_n 0, 1) := dk_42 (dk_at dksX8_takesOut_2 18 rfl rfl)
theorem dX8_takesOut_66 : decode cX8_takesOut 66 = .ok (.getfield 16, 3) := dk_180 0 16 (dk_at dksX8_takesOut_2 19 rfl rfl)
theorem dX8_takesOut_69 : decode cX8_takesOut 69 = .ok (.iconst 4, 1) := dk_7 (dk_at dksX8_takesOut_2 22 rfl rfl)
theorem dX8_takesOut_70 : decode cX8_takesOut 70 = .ok (.iload 5, 2) := dk_21 5 (dk_at dksX8_takesOut_3 0 rfl rfl)
theorem dX8_takesOut_72 : decode cX8_takesOut 72 = .ok (.imul, 1) := dk_104 (dk_at dksX8_takesOut_3 2 rfl rfl)
theorem dX8_takesOut_73 : decode cX8_takesOut 73 = .ok (.iload 6, 2) := dk_21 6 (dk_at dksX8_takesOut_3 3 rfl rfl)
theorem dX8_takesOut_75 : decode cX8_takesOut 75 = .ok (.iadd, 1) := dk_96 (dk_at dksX8_takesOut_3 5 rfl rfl)
theorem dX8_takesOut_76 : decode cX8_takesOut 76 = .ok (.aload_n 0, 1) := dk_42 (dk_at dksX8_takesOut_3 6 rfl rfl)
theorem dX8_takesOut_77 : decode cX8_takesOut 77 = .ok (.getfield 16, 3) := dk_180 0 16 (dk_at dksX8_takesOut_3 7 rfl rfl)
theorem dX8_takesOut_80 : decode cX8_takesOut 80 = .ok (.iconst 4, 1) := dk_7 (dk_at dksX8_takesOut_3 10 rfl rfl)
theorem dX8_takesOut_81 : decode cX8_takesOut 81 = .ok (.iload 5, 2) := dk_21 5 (dk_at dksX8_takesOut_3 11 rfl rfl)
theorem dX8_takesOut_83 : decode cX8_takesOut 83 = .ok (.iconst 1, 1) := dk_4 (dk_at dksX8_takesOut_3 13 rfl rfl)
theorem dX8_takesOut_84 : decode cX8_takesOut 84 = .ok (.iadd, 1) := dk_96 (dk_at dksX8_takesOut_3 14 rfl rfl)
theorem dX8_takesOut_85 : decode cX8_takesOut 85 = .ok (.imul, 1) := dk_104 (dk_at dksX8_takesOut_3 15 rfl rfl)
theorem dX8_takesOut_86 : decode cX8_takesOut 86 = .ok (.iload 6, 2) := dk_21 6 (dk_at dksX8_takesOut_3 16 rfl rfl)
theorem dX8_takesOut_88 : decode cX8_takesOut 88 = .ok (.iadd, 1) := dk_96 (dk_at dksX8_takesOut_3 18 rfl rfl)
theorem dX8_takesOut_89 : decode cX8_takesOut 89 = .ok (.iaload, 1) := dk_46 (dk_at dksX8_takesOut_3 19 rfl rfl)
theorem dX8_takesOut_90 : decode cX8_takesOut 90 = .ok (.iastore, 1) := dk_79 (dk_at dksX8_takesOut_3 20 rfl rfl)
theorem dX8_takesOut_91 : decode cX8_takesOut 91 = .ok (.iinc 6 1, 3) := dk_132 6 1 (dk_at dksX8_takesOut_3 21 rfl rfl)
theorem dX8_takesOut_94 : decode cX8_takesOut 94 = .ok (.goto (-35), 3) := dk_167 255 221 (dk_at dksX8_takesOut_4 0 rfl rfl)
theorem dX8_takesOut_97 : decode cX8_takesOut 97 = .ok (.iinc 4 1, 3) := dk_132 4 1 (dk_at dksX8_takesOut_4 3 rfl rfl)
theorem dX8_takesOut_100 : decode cX8_takesOut 100 = .ok (.goto (-80), 3) := dk_167 255 176 (dk_at dksX8_takesOut_4 6 rfl rfl)
theorem dX8_takesOut_103 : decode cX8_takesOut 103 = .ok (.aload_n 0, 1) := dk_42 (dk_at dksX8_takesOut_4 9 rfl rfl)
theorem dX8_takesOut_104 : decode cX8_takesOut 104 = .ok (.iload_n 1, 1) := dk_27 (dk_at dksX8_takesOut_4 10 rfl rfl)
theorem dX8_takesOut_105 : decode cX8_takesOut 105 = .ok (.invokevirtual 248, 3) := dk_182 0 248 (dk_at dksX8_takesOut_4 11 rfl rfl)
theorem dX8_takesOut_108 : decode cX8_takesOut 108 = .ok (.return_, 1) := dk_177 (dk_at dksX8_takesOut_4 14 rfl rfl)
abbrev cX8_count : ByteArray := prog_20_method_24_code
def yX8_count : MethodName := ⟨RX8, "count", "(I)I"⟩
def dkwX8_count_1 : List UInt8 := [167, 0, 9, 42, 180, 0, 7, 27, 46, 172]
abbrev dktX8_count_1 : List UInt8 := dkwX8_count_1 ++ []
def dkwX8_count_0 : List UInt8 := [42, 27, 184, 1, 14, 153, 0, 7, 3, 167, 0, 4, 4, 181, 0, 213, 42, 180, 0, 213, 158, 0, 7, 3]
abbrev dktX8_count_0 : List UInt8 := dkwX8_count_0 ++ dktX8_count_1
theorem dksX8_count_0 : cX8_count.data.toList.drop 0 = dktX8_count_0 := by decide +kernel
theorem dksX8_count_1 : cX8_count.data.toList.drop 24 = dktX8_count_1 := dk_seg dksX8_count_0 24 rfl rfl
theorem dX8_count_0 : decode cX8_count 0 = .ok (.aload_n 0, 1) := dk_42 (dk_at dksX8_count_0 0 rfl rfl)
theorem dX8_count_1 : decode cX8_count 1 = .ok (.iload_n 1, 1) := dk_27 (dk_at dksX8_count_0 1 rfl rfl)
theorem dX8_count_2 : decode cX8_count 2 = .ok (.invokestatic 270, 3) := dk_184 1 14 (dk_at dksX8_count_0 2 rfl rfl)
theorem dX8_count_5 : decode cX8_count 5 = .ok (.ifCond .eq 7, 3) := dk_153 0 7 (dk_at dksX8_count_0 5 rfl rfl)
theorem dX8_count_8 : decode cX8_count 8 = .ok (.iconst 0, 1) := dk_3 (dk_at dksX8_count_0 8 rfl rfl)
theorem dX8_count_9 : decode cX8_count 9 = .ok (.goto 4, 3) := dk_167 0 4 (dk_at dksX8_count_0 9 rfl rfl)
theorem dX8_count_12 : decode cX8_count 12 = .ok (.iconst 1, 1) := dk_4 (dk_at dksX8_count_0 12 rfl rfl)
theorem dX8_count_13 : decode cX8_count 13 = .ok (.putfield 213, 3) := dk_181 0 213 (dk_at dksX8_count_0 13 rfl rfl)
theorem dX8_count_16 : decode cX8_count 16 = .ok (.aload_n 0, 1) := dk_42 (dk_at dksX8_count_0 16 rfl rfl)
theorem dX8_count_17 : decode cX8_count 17 = .ok (.getfield 213, 3) := dk_180 0 213 (dk_at dksX8_count_0 17 rfl rfl)
theorem dX8_count_20 : decode cX8_count 20 = .ok (.ifCond .le 7, 3) := dk_158 0 7 (dk_at dksX8_count_0 20 rfl rfl)
theorem dX8_count_23 : decode cX8_count 23 = .ok (.iconst 0, 1) := dk_3 (dk_at dksX8_count_0 23 rfl rfl)
theorem dX8_count_24 : decode cX8_count 24 = .ok (.goto 9, 3) := dk_167 0 9 (dk_at dksX8_count_1 0 rfl rfl)
theorem dX8_count_27 : decode cX8_count 27 = .ok (.aload_n 0, 1) := dk_42 (dk_at dksX8_count_1 3 rfl rfl)
theorem dX8_count_28 : decode cX8_count 28 = .ok (.getfield 7, 3) := dk_180 0 7 (dk_at dksX8_count_1 4 rfl rfl)
theorem dX8_count_31 : decode cX8_count 31 = .ok (.iload_n 1, 1) := dk_27 (dk_at dksX8_count_1 7 rfl rfl)
theorem dX8_count_32 : decode cX8_count 32 = .ok (.iaload, 1) := dk_46 (dk_at dksX8_count_1 8 rfl rfl)
theorem dX8_count_33 : decode cX8_count 33 = .ok (.ireturn, 1) := dk_172 (dk_at dksX8_count_1 9 rfl rfl)
abbrev cX8_cell : ByteArray := prog_20_method_25_code
def yX8_cell : MethodName := ⟨RX8, "cell", "(III)I"⟩
def dkwX8_cell_2 : List UInt8 := [180, 0, 16, 7, 16, 12, 27, 104, 42, 27, 28, 182, 0, 252, 96, 104, 29, 96, 46, 172]
abbrev dktX8_cell_2 : List UInt8 := dkwX8_cell_2 ++ []
def dkwX8_cell_1 : List UInt8 := [154, 0, 7, 4, 167, 0, 4, 3, 181, 0, 213, 42, 180, 0, 213, 158, 0, 7, 3, 167, 0, 23, 42]
abbrev dktX8_cell_1 : List UInt8 := dkwX8_cell_1 ++ dktX8_cell_2
def dkwX8_cell_0 : List UInt8 := [42, 27, 184, 1, 14, 153, 0, 21, 42, 27, 28, 182, 0, 252, 2, 159, 0, 11, 27, 29, 184, 0, 224]
abbrev dktX8_cell_0 : List UInt8 := dkwX8_cell_0 ++ dktX8_cell_1
theorem dksX8_cell_0 : cX8_cell.data.toList.drop 0 = dktX8_cell_0 := by decide +kernel
theorem dksX8_cell_1 : cX8_cell.data.toList.drop 23 = dktX8_cell_1 := dk_seg dksX8_cell_0 23 rfl rfl
theorem dksX8_cell_2 : cX8_cell.data.toList.drop 46 = dktX8_cell_2 := dk_seg dksX8_cell_1 23 rfl rfl
theorem dX8_cell_0 : decode cX8_cell 0 = .ok (.aload_n 0, 1) := dk_42 (dk_at dksX8_cell_0 0 rfl rfl)
theorem dX8_cell_1 : decode cX8_cell 1 = .ok (.iload_n 1, 1) := dk_27 (dk_at dksX8_cell_0 1 rfl rfl)
theorem dX8_cell_2 : decode cX8_cell 2 = .ok (.invokestatic 270, 3) := dk_184 1 14 (dk_at dksX8_cell_0 2 rfl rfl)
theorem dX8_cell_5 : decode cX8_cell 5 = .ok (.ifCond .eq 21, 3) := dk_153 0 21 (dk_at dksX8_cell_0 5 rfl rfl)
theorem dX8_cell_8 : decode cX8_cell 8 = .ok (.aload_n 0, 1) := dk_42 (dk_at dksX8_cell_0 8 rfl rfl)
theorem dX8_cell_9 : decode cX8_cell 9 = .ok (.iload_n 1, 1) := dk_27 (dk_at dksX8_cell_0 9 rfl rfl)
theorem dX8_cell_10 : decode cX8_cell 10 = .ok (.iload_n 2, 1) := dk_28 (dk_at dksX8_cell_0 10 rfl rfl)
theorem dX8_cell_11 : decode cX8_cell 11 = .ok (.invokevirtual 252, 3) := dk_182 0 252 (dk_at dksX8_cell_0 11 rfl rfl)
theorem dX8_cell_14 : decode cX8_cell 14 = .ok (.iconst (-1), 1) := dk_2 (dk_at dksX8_cell_0 14 rfl rfl)
theorem dX8_cell_15 : decode cX8_cell 15 = .ok (.if_icmp .eq 11, 3) := dk_159 0 11 (dk_at dksX8_cell_0 15 rfl rfl)
theorem dX8_cell_18 : decode cX8_cell 18 = .ok (.iload_n 1, 1) := dk_27 (dk_at dksX8_cell_0 18 rfl rfl)
theorem dX8_cell_19 : decode cX8_cell 19 = .ok (.iload_n 3, 1) := dk_29 (dk_at dksX8_cell_0 19 rfl rfl)
theorem dX8_cell_20 : decode cX8_cell 20 = .ok (.invokestatic 224, 3) := dk_184 0 224 (dk_at dksX8_cell_0 20 rfl rfl)
theorem dX8_cell_23 : decode cX8_cell 23 = .ok (.ifCond .ne 7, 3) := dk_154 0 7 (dk_at dksX8_cell_1 0 rfl rfl)
theorem dX8_cell_26 : decode cX8_cell 26 = .ok (.iconst 1, 1) := dk_4 (dk_at dksX8_cell_1 3 rfl rfl)
theorem dX8_cell_27 : decode cX8_cell 27 = .ok (.goto 4, 3) := dk_167 0 4 (dk_at dksX8_cell_1 4 rfl rfl)
theorem dX8_cell_30 : decode cX8_cell 30 = .ok (.iconst 0, 1) := dk_3 (dk_at dksX8_cell_1 7 rfl rfl)
theorem dX8_cell_31 : decode cX8_cell 31 = .ok (.putfield 213, 3) := dk_181 0 213 (dk_at dksX8_cell_1 8 rfl rfl)
theorem dX8_cell_34 : decode cX8_cell 34 = .ok (.aload_n 0, 1) := dk_42 (dk_at dksX8_cell_1 11 rfl rfl)
theorem dX8_cell_35 : decode cX8_cell 35 = .ok (.getfield 213, 3) := dk_180 0 213 (dk_at dksX8_cell_1 12 rfl rfl)
theorem dX8_cell_38 : decode cX8_cell 38 = .ok (.ifCond .le 7, 3) := dk_158 0 7 (dk_at dksX8_cell_1 15 rfl rfl)
theorem dX8_cell_41 : decode cX8_cell 41 = .ok (.iconst 0, 1) := dk_3 (dk_at dksX8_cell_1 18 rfl rfl)
theorem dX8_cell_42 : decode cX8_cell 42 = .ok (.goto 23, 3) := dk_167 0 23 (dk_at dksX8_cell_1 19 rfl rfl)
theorem dX8_cell_45 : decode cX8_cell 45 = .ok (.aload_n 0, 1) := dk_42 (dk_at dksX8_cell_1 22 rfl rfl)
theorem dX8_cell_46 : decode cX8_cell 46 = .ok (.getfield 16, 3) := dk_180 0 16 (dk_at dksX8_cell_2 0 rfl rfl)
theorem dX8_cell_49 : decode cX8_cell 49 = .ok (.iconst 4, 1) := dk_7 (dk_at dksX8_cell_2 3 rfl rfl)
theorem dX8_cell_50 : decode cX8_cell 50 = .ok (.bipush 12, 2) := dk_16 12 (dk_at dksX8_cell_2 4 rfl rfl)
theorem dX8_cell_52 : decode cX8_cell 52 = .ok (.iload_n 1, 1) := dk_27 (dk_at dksX8_cell_2 6 rfl rfl)
theorem dX8_cell_53 : decode cX8_cell 53 = .ok (.imul, 1) := dk_104 (dk_at dksX8_cell_2 7 rfl rfl)
theorem dX8_cell_54 : decode cX8_cell 54 = .ok (.aload_n 0, 1) := dk_42 (dk_at dksX8_cell_2 8 rfl rfl)
theorem dX8_cell_55 : decode cX8_cell 55 = .ok (.iload_n 1, 1) := dk_27 (dk_at dksX8_cell_2 9 rfl rfl)
theorem dX8_cell_56 : decode cX8_cell 56 = .ok (.iload_n 2, 1) := dk_28 (dk_at dksX8_cell_2 10 rfl rfl)
theorem dX8_cell_57 : decode cX8_cell 57 = .ok (.invokevirtual 252, 3) := dk_182 0 252 (dk_at dksX8_cell_2 11 rfl rfl)
theorem dX8_cell_60 : decode cX8_cell 60 = .ok (.iadd, 1) := dk_96 (dk_at dksX8_cell_2 14 rfl rfl)
theorem dX8_cell_61 : decode cX8_cell 61 = .ok (.imul, 1) := dk_104 (dk_at dksX8_cell_2 15 rfl rfl)
theorem dX8_cell_62 : decode cX8_cell 62 = .ok (.iload_n 3, 1) := dk_29 (dk_at dksX8_cell_2 16 rfl rfl)
theorem dX8_cell_63 : decode cX8_cell 63 = .ok (.iadd, 1) := dk_96 (dk_at dksX8_cell_2 17 rfl rfl)
theorem dX8_cell_64 : decode cX8_cell 64 = .ok (.iaload, 1) := dk_46 (dk_at dksX8_cell_2 18 rfl rfl)
theorem dX8_cell_65 : decode cX8_cell 65 = .ok (.ireturn, 1) := dk_172 (dk_at dksX8_cell_2 19 rfl rfl)
abbrev cX8_losses : ByteArray := prog_20_method_26_code
def yX8_losses : MethodName := ⟨RX8, "losses", "()I"⟩
def dkwX8_losses_0 : List UInt8 := [42, 3, 181, 0, 213, 42, 180, 1, 0, 172]
abbrev dktX8_losses_0 : List UInt8 := dkwX8_losses_0 ++ []
theorem dksX8_losses_0 : cX8_losses.data.toList.drop 0 = dktX8_losses_0 := by decide +kernel
theorem dX8_losses_0 : decode cX8_losses 0 = .ok (.aload_n 0, 1) := dk_42 (dk_at dksX8_losses_0 0 rfl rfl)
theorem dX8_losses_1 : decode cX8_losses 1 = .ok (.iconst 0, 1) := dk_3 (dk_at dksX8_losses_0 1 rfl rfl)
theorem dX8_losses_2 : decode cX8_losses 2 = .ok (.putfield 213, 3) := dk_181 0 213 (dk_at dksX8_losses_0 2 rfl rfl)
theorem dX8_losses_5 : decode cX8_losses 5 = .ok (.aload_n 0, 1) := dk_42 (dk_at dksX8_losses_0 5 rfl rfl)
theorem dX8_losses_6 : decode cX8_losses 6 = .ok (.getfield 256, 3) := dk_180 1 0 (dk_at dksX8_losses_0 6 rfl rfl)
theorem dX8_losses_9 : decode cX8_losses 9 = .ok (.ireturn, 1) := dk_172 (dk_at dksX8_losses_0 9 rfl rfl)
abbrev cX8_moment : ByteArray := prog_20_method_27_code
def yX8_moment : MethodName := ⟨RX8, "moment", "()I"⟩
def dkwX8_moment_0 : List UInt8 := [42, 3, 181, 0, 213, 42, 180, 0, 242, 172]
abbrev dktX8_moment_0 : List UInt8 := dkwX8_moment_0 ++ []
theorem dksX8_moment_0 : cX8_moment.data.toList.drop 0 = dktX8_moment_0 := by decide +kernel
theorem dX8_moment_0 : decode cX8_moment 0 = .ok (.aload_n 0, 1) := dk_42 (dk_at dksX8_moment_0 0 rfl rfl)
theorem dX8_moment_1 : decode cX8_moment 1 = .ok (.iconst 0, 1) := dk_3 (dk_at dksX8_moment_0 1 rfl rfl)
theorem dX8_moment_2 : decode cX8_moment 2 = .ok (.putfield 213, 3) := dk_181 0 213 (dk_at dksX8_moment_0 2 rfl rfl)
theorem dX8_moment_5 : decode cX8_moment 5 = .ok (.aload_n 0, 1) := dk_42 (dk_at dksX8_moment_0 5 rfl rfl)
theorem dX8_moment_6 : decode cX8_moment 6 = .ok (.getfield 242, 3) := dk_180 0 242 (dk_at dksX8_moment_0 6 rfl rfl)
theorem dX8_moment_9 : decode cX8_moment 9 = .ok (.ireturn, 1) := dk_172 (dk_at dksX8_moment_0 9 rfl rfl)
abbrev cX8_setPace : ByteArray := prog_20_method_28_code
def yX8_setPace : MethodName := ⟨RX8, "setPace", "(III)I"⟩
def dkwX8_setPace_3 : List UInt8 := [21, 4, 172]
abbrev dktX8_setPace_3 : List UInt8 := dkwX8_setPace_3 ++ []
def dkwX8_setPace_2 : List UInt8 := [172, 42, 180, 0, 25, 27, 46, 54, 4, 42, 180, 0, 25, 27, 28, 79, 42, 180, 0, 28, 27, 29, 79]
abbrev dktX8_setPace_2 : List UInt8 := dkwX8_setPace_2 ++ dktX8_setPace_3
def dkwX8_setPace_1 : List UInt8 := [16, 60, 184, 0, 216, 153, 0, 7, 3, 167, 0, 4, 5, 181, 0, 213, 42, 180, 0, 213, 158, 0, 5, 3]
abbrev dktX8_setPace_1 : List UInt8 := dkwX8_setPace_1 ++ dktX8_setPace_2
def dkwX8_setPace_0 : List UInt8 := [42, 27, 184, 1, 34, 154, 0, 7, 4, 167, 0, 28, 28, 3, 16, 30, 184, 0, 216, 153, 0, 17, 29, 3]
abbrev dktX8_setPace_0 : List UInt8 := dkwX8_setPace_0 ++ dktX8_setPace_1
theorem dksX8_setPace_0 : cX8_setPace.data.toList.drop 0 = dktX8_setPace_0 := by decide +kernel
theorem dksX8_setPace_1 : cX8_setPace.data.toList.drop 24 = dktX8_setPace_1 := dk_seg dksX8_setPace_0 24 rfl rfl
theorem dksX8_setPace_2 : cX8_setPace.data.toList.drop 48 = dktX8_setPace_2 := dk_seg dksX8_setPace_1 24 rfl rfl
theorem dksX8_setPace_3 : cX8_setPace.data.toList.drop 71 = dktX8_setPace_3 := dk_seg dksX8_setPace_2 23 rfl rfl
theorem dX8_setPace_0 : decode cX8_setPace 0 = .ok (.aload_n 0, 1) := dk_42 (dk_at dksX8_setPace_0 0 rfl rfl)
theorem dX8_setPace_1 : decode cX8_setPace 1 = .ok (.iload_n 1, 1) := dk_27 (dk_at dksX8_setPace_0 1 rfl rfl)
theorem dX8_setPace_2 : decode cX8_setPace 2 = .ok (.invokestatic 290, 3) := dk_184 1 34 (dk_at dksX8_setPace_0 2 rfl rfl)
theorem dX8_setPace_5 : decode cX8_setPace 5 = .ok (.ifCond .ne 7, 3) := dk_154 0 7 (dk_at dksX8_setPace_0 5 rfl rfl)
theorem dX8_setPace_8 : decode cX8_setPace 8 = .ok (.iconst 1, 1) := dk_4 (dk_at dksX8_setPace_0 8 rfl rfl)
theorem dX8_setPace_9 : decode cX8_setPace 9 = .ok (.goto 28, 3) := dk_167 0 28 (dk_at dksX8_setPace_0 9 rfl rfl)
theorem dX8_setPace_12 : decode cX8_setPace 12 = .ok (.iload_n 2, 1) := dk_28 (dk_at dksX8_setPace_0 12 rfl rfl)
theorem dX8_setPace_13 : decode cX8_setPace 13 = .ok (.iconst 0, 1) := dk_3 (dk_at dksX8_setPace_0 13 rfl rfl)
theorem dX8_setPace_14 : decode cX8_setPace 14 = .ok (.bipush 30, 2) := dk_16 30 (dk_at dksX8_setPace_0 14 rfl rfl)
theorem dX8_setPace_16 : decode cX8_setPace 16 = .ok (.invokestatic 216, 3) := dk_184 0 216 (dk_at dksX8_setPace_0 16 rfl rfl)
theorem dX8_setPace_19 : decode cX8_setPace 19 = .ok (.ifCond .eq 17, 3) := dk_153 0 17 (dk_at dksX8_setPace_0 19 rfl rfl)
theorem dX8_setPace_22 : decode cX8_setPace 22 = .ok (.iload_n 3, 1) := dk_29 (dk_at dksX8_setPace_0 22 rfl rfl)
theorem dX8_setPace_23 : decode cX8_setPace 23 = .ok (.iconst 0, 1) := dk_3 (dk_at dksX8_setPace_0 23 rfl rfl)
theorem dX8_setPace_24 : decode cX8_setPace 24 = .ok (.bipush 60, 2) := dk_16 60 (dk_at dksX8_setPace_1 0 rfl rfl)
theorem dX8_setPace_26 : decode cX8_setPace 26 = .ok (.invokestatic 216, 3) := dk_184 0 216 (dk_at dksX8_setPace_1 2 rfl rfl)
theorem dX8_setPace_29 : decode cX8_setPace 29 = .ok (.ifCond .eq 7, 3) := dk_153 0 7 (dk_at dksX8_setPace_1 5 rfl rfl)
theorem dX8_setPace_32 : decode cX8_setPace 32 = .ok (.iconst 0, 1) := dk_3 (dk_at dksX8_setPace_1 8 rfl rfl)
theorem dX8_setPace_33 : decode cX8_setPace 33 = .ok (.goto 4, 3) := dk_167 0 4 (dk_at dksX8_setPace_1 9 rfl rfl)
theorem dX8_setPace_36 : decode cX8_setPace 36 = .ok (.iconst 2, 1) := dk_5 (dk_at dksX8_setPace_1 12 rfl rfl)
theorem dX8_setPace_37 : decode cX8_setPace 37 = .ok (.putfield 213, 3) := dk_181 0 213 (dk_at dksX8_setPace_1 13 rfl rfl)
theorem dX8_setPace_40 : decode cX8_setPace 40 = .ok (.aload_n 0, 1) := dk_42 (dk_at dksX8_setPace_1 16 rfl rfl)
theorem dX8_setPace_41 : decode cX8_setPace 41 = .ok (.getfield 213, 3) := dk_180 0 213 (dk_at dksX8_setPace_1 17 rfl rfl)
theorem dX8_setPace_44 : decode cX8_setPace 44 = .ok (.ifCond .le 5, 3) := dk_158 0 5 (dk_at dksX8_setPace_1 20 rfl rfl)
theorem dX8_setPace_47 : decode cX8_setPace 47 = .ok (.iconst 0, 1) := dk_3 (dk_at dksX8_setPace_1 23 rfl rfl)
theorem dX8_setPace_48 : decode cX8_setPace 48 = .ok (.ireturn, 1) := dk_172 (dk_at dksX8_setPace_2 0 rfl rfl)
theorem dX8_setPace_49 : decode cX8_setPace 49 = .ok (.aload_n 0, 1) := dk_42 (dk_at dksX8_setPace_2 1 rfl rfl)
theorem dX8_setPace_50 : decode cX8_setPace 50 = .ok (.getfield 25, 3) := dk_180 0 25 (dk_at dksX8_setPace_2 2 rfl rfl)
theorem dX8_setPace_53 : decode cX8_setPace 53 = .ok (.iload_n 1, 1) := dk_27 (dk_at dksX8_setPace_2 5 rfl rfl)
theorem dX8_setPace_54 : decode cX8_setPace 54 = .ok (.iaload, 1) := dk_46 (dk_at dksX8_setPace_2 6 rfl rfl)
theorem dX8_setPace_55 : decode cX8_setPace 55 = .ok (.istore 4, 2) := dk_54 4 (dk_at dksX8_setPace_2 7 rfl rfl)
theorem dX8_setPace_57 : decode cX8_setPace 57 = .ok (.aload_n 0, 1) := dk_42 (dk_at dksX8_setPace_2 9 rfl rfl)
theorem dX8_setPace_58 : decode cX8_setPace 58 = .ok (.getfield 25, 3) := dk_180 0 25 (dk_at dksX8_setPace_2 10 rfl rfl)
theorem dX8_setPace_61 : decode cX8_setPace 61 = .ok (.iload_n 1, 1) := dk_27 (dk_at dksX8_setPace_2 13 rfl rfl)
theorem dX8_setPace_62 : decode cX8_setPace 62 = .ok (.iload_n 2, 1) := dk_28 (dk_at dksX8_setPace_2 14 rfl rfl)
theorem dX8_setPace_63 : decode cX8_setPace 63 = .ok (.iastore, 1) := dk_79 (dk_at dksX8_setPace_2 15 rfl rfl)
theorem dX8_setPace_64 : decode cX8_setPace 64 = .ok (.aload_n 0, 1) := dk_42 (dk_at dksX8_setPace_2 16 rfl rfl)
theorem dX8_setPace_65 : decode cX8_setPace 65 = .ok (.getfield 28, 3) := dk_180 0 28 (dk_at dksX8_setPace_2 17 rfl rfl)
theorem dX8_setPace_68 : decode cX8_setPace 68 = .ok (.iload_n 1, 1) := dk_27 (dk_at dksX8_setPace_2 20 rfl rfl)
theorem dX8_setPace_69 : decode cX8_setPace 69 = .ok (.iload_n 3, 1) := dk_29 (dk_at dksX8_setPace_2 21 rfl rfl)
theorem dX8_setPace_70 : decode cX8_setPace 70 = .ok (.iastore, 1) := dk_79 (dk_at dksX8_setPace_2 22 rfl rfl)
theorem dX8_setPace_71 : decode cX8_setPace 71 = .ok (.iload 4, 2) := dk_21 4 (dk_at dksX8_setPace_3 0 rfl rfl)
theorem dX8_setPace_73 : decode cX8_setPace 73 = .ok (.ireturn, 1) := dk_172 (dk_at dksX8_setPace_3 2 rfl rfl)
abbrev cX8_isStore : ByteArray := prog_20_method_5_code
def yX8_isStore : MethodName := ⟨RX8, "isStore", "(I)Z"⟩
def dkwX8_isStore_0 : List UInt8 := [26, 3, 5, 184, 0, 216, 172]
abbrev dktX8_isStore_0 : List UInt8 := dkwX8_isStore_0 ++ []
theorem dksX8_isStore_0 : cX8_isStore.data.toList.drop 0 = dktX8_isStore_0 := by decide +kernel
theorem dX8_isStore_0 : decode cX8_isStore 0 = .ok (.iload_n 0, 1) := dk_26 (dk_at dksX8_isStore_0 0 rfl rfl)
theorem dX8_isStore_1 : decode cX8_isStore 1 = .ok (.iconst 0, 1) := dk_3 (dk_at dksX8_isStore_0 1 rfl rfl)
theorem dX8_isStore_2 : decode cX8_isStore 2 = .ok (.iconst 2, 1) := dk_5 (dk_at dksX8_isStore_0 2 rfl rfl)
theorem dX8_isStore_3 : decode cX8_isStore 3 = .ok (.invokestatic 216, 3) := dk_184 0 216 (dk_at dksX8_isStore_0 3 rfl rfl)
theorem dX8_isStore_6 : decode cX8_isStore 6 = .ok (.ireturn, 1) := dk_172 (dk_at dksX8_isStore_0 6 rfl rfl)
abbrev cX8_setBounds : ByteArray := prog_20_method_29_code
def yX8_setBounds : MethodName := ⟨RX8, "setBounds", "(III)I"⟩
def dkwX8_setBounds_3 : List UInt8 := [21, 4, 172]
abbrev dktX8_setBounds_3 : List UInt8 := dkwX8_setBounds_3 ++ []
def dkwX8_setBounds_2 : List UInt8 := [172, 42, 180, 0, 31, 27, 46, 54, 4, 42, 180, 0, 31, 27, 28, 79, 42, 180, 0, 34, 27, 29, 79]
abbrev dktX8_setBounds_2 : List UInt8 := dkwX8_setBounds_2 ++ dktX8_setBounds_3
def dkwX8_setBounds_1 : List UInt8 := [16, 12, 184, 0, 216, 153, 0, 7, 3, 167, 0, 4, 5, 181, 0, 213, 42, 180, 0, 213, 158, 0, 5, 3]
abbrev dktX8_setBounds_1 : List UInt8 := dkwX8_setBounds_1 ++ dktX8_setBounds_2
def dkwX8_setBounds_0 : List UInt8 := [42, 27, 184, 1, 34, 154, 0, 7, 4, 167, 0, 28, 28, 4, 16, 20, 184, 0, 216, 153, 0, 17, 29, 3]
abbrev dktX8_setBounds_0 : List UInt8 := dkwX8_setBounds_0 ++ dktX8_setBounds_1
theorem dksX8_setBounds_0 : cX8_setBounds.data.toList.drop 0 = dktX8_setBounds_0 := by decide +kernel
theorem dksX8_setBounds_1 : cX8_setBounds.data.toList.drop 24 = dktX8_setBounds_1 := dk_seg dksX8_setBounds_0 24 rfl rfl
theorem dksX8_setBounds_2 : cX8_setBounds.data.toList.drop 48 = dktX8_setBounds_2 := dk_seg dksX8_setBounds_1 24 rfl rfl
theorem dksX8_setBounds_3 : cX8_setBounds.data.toList.drop 71 = dktX8_setBounds_3 := dk_seg dksX8_setBounds_2 23 rfl rfl
theorem dX8_setBounds_0 : decode cX8_setBounds 0 = .ok (.aload_n 0, 1) := dk_42 (dk_at dksX8_setBounds_0 0 rfl rfl)
theorem dX8_setBounds_1 : decode cX8_setBounds 1 = .ok (.iload_n 1, 1) := dk_27 (dk_at dksX8_setBounds_0 1 rfl rfl)
theorem dX8_setBounds_2 : decode cX8_setBounds 2 = .ok (.invokestatic 290, 3) := dk_184 1 34 (dk_at dksX8_setBounds_0 2 rfl rfl)
theorem dX8_setBounds_5 : decode cX8_setBounds 5 = .ok (.ifCond .ne 7, 3) := dk_154 0 7 (dk_at dksX8_setBounds_0 5 rfl rfl)
theorem dX8_setBounds_8 : decode cX8_setBounds 8 = .ok (.iconst 1, 1) := dk_4 (dk_at dksX8_setBounds_0 8 rfl rfl)
theorem dX8_setBounds_9 : decode cX8_setBounds 9 = .ok (.goto 28, 3) := dk_167 0 28 (dk_at dksX8_setBounds_0 9 rfl rfl)
theorem dX8_setBounds_12 : decode cX8_setBounds 12 = .ok (.iload_n 2, 1) := dk_28 (dk_at dksX8_setBounds_0 12 rfl rfl)
theorem dX8_setBounds_13 : decode cX8_setBounds 13 = .ok (.iconst 1, 1) := dk_4 (dk_at dksX8_setBounds_0 13 rfl rfl)
theorem dX8_setBounds_14 : decode cX8_setBounds 14 = .ok (.bipush 20, 2) := dk_16 20 (dk_at dksX8_setBounds_0 14 rfl rfl)
theorem dX8_setBounds_16 : decode cX8_setBounds 16 = .ok (.invokestatic 216, 3) := dk_184 0 216 (dk_at dksX8_setBounds_0 16 rfl rfl)
theorem dX8_setBounds_19 : decode cX8_setBounds 19 = .ok (.ifCond .eq 17, 3) := dk_153 0 17 (dk_at dksX8_setBounds_0 19 rfl rfl)
theorem dX8_setBounds_22 : decode cX8_setBounds 22 = .ok (.iload_n 3, 1) := dk_29 (dk_at dksX8_setBounds_0 22 rfl rfl)
theorem dX8_setBounds_23 : decode cX8_setBounds 23 = .ok (.iconst 0, 1) := dk_3 (dk_at dksX8_setBounds_0 23 rfl rfl)
theorem dX8_setBounds_24 : decode cX8_setBounds 24 = .ok (.bipush 12, 2) := dk_16 12 (dk_at dksX8_setBounds_1 0 rfl rfl)
theorem dX8_setBounds_26 : decode cX8_setBounds 26 = .ok (.invokestatic 216, 3) := dk_184 0 216 (dk_at dksX8_setBounds_1 2 rfl rfl)
theorem dX8_setBounds_29 : decode cX8_setBounds 29 = .ok (.ifCond .eq 7, 3) := dk_153 0 7 (dk_at dksX8_setBounds_1 5 rfl rfl)
theorem dX8_setBounds_32 : decode cX8_setBounds 32 = .ok (.iconst 0, 1) := dk_3 (dk_at dksX8_setBounds_1 8 rfl rfl)
theorem dX8_setBounds_33 : decode cX8_setBounds 33 = .ok (.goto 4, 3) := dk_167 0 4 (dk_at dksX8_setBounds_1 9 rfl rfl)
theorem dX8_setBounds_36 : decode cX8_setBounds 36 = .ok (.iconst 2, 1) := dk_5 (dk_at dksX8_setBounds_1 12 rfl rfl)
theorem dX8_setBounds_37 : decode cX8_setBounds 37 = .ok (.putfield 213, 3) := dk_181 0 213 (dk_at dksX8_setBounds_1 13 rfl rfl)
theorem dX8_setBounds_40 : decode cX8_setBounds 40 = .ok (.aload_n 0, 1) := dk_42 (dk_at dksX8_setBounds_1 16 rfl rfl)
theorem dX8_setBounds_41 : decode cX8_setBounds 41 = .ok (.getfield 213, 3) := dk_180 0 213 (dk_at dksX8_setBounds_1 17 rfl rfl)
theorem dX8_setBounds_44 : decode cX8_setBounds 44 = .ok (.ifCond .le 5, 3) := dk_158 0 5 (dk_at dksX8_setBounds_1 20 rfl rfl)
theorem dX8_setBounds_47 : decode cX8_setBounds 47 = .ok (.iconst 0, 1) := dk_3 (dk_at dksX8_setBounds_1 23 rfl rfl)
theorem dX8_setBounds_48 : decode cX8_setBounds 48 = .ok (.ireturn, 1) := dk_172 (dk_at dksX8_setBounds_2 0 rfl rfl)
theorem dX8_setBounds_49 : decode cX8_setBounds 49 = .ok (.aload_n 0, 1) := dk_42 (dk_at dksX8_setBounds_2 1 rfl rfl)
theorem dX8_setBounds_50 : decode cX8_setBounds 50 = .ok (.getfield 31, 3) := dk_180 0 31 (dk_at dksX8_setBounds_2 2 rfl rfl)
theorem dX8_setBounds_53 : decode cX8_setBounds 53 = .ok (.iload_n 1, 1) := dk_27 (dk_at dksX8_setBounds_2 5 rfl rfl)
theorem dX8_setBounds_54 : decode cX8_setBounds 54 = .ok (.iaload, 1) := dk_46 (dk_at dksX8_setBounds_2 6 rfl rfl)
theorem dX8_setBounds_55 : decode cX8_setBounds 55 = .ok (.istore 4, 2) := dk_54 4 (dk_at dksX8_setBounds_2 7 rfl rfl)
theorem dX8_setBounds_57 : decode cX8_setBounds 57 = .ok (.aload_n 0, 1) := dk_42 (dk_at dksX8_setBounds_2 9 rfl rfl)
theorem dX8_setBounds_58 : decode cX8_setBounds 58 = .ok (.getfield 31, 3) := dk_180 0 31 (dk_at dksX8_setBounds_2 10 rfl rfl)
theorem dX8_setBounds_61 : decode cX8_setBounds 61 = .ok (.iload_n 1, 1) := dk_27 (dk_at dksX8_setBounds_2 13 rfl rfl)
theorem dX8_setBounds_62 : decode cX8_setBounds 62 = .ok (.iload_n 2, 1) := dk_28 (dk_at dksX8_setBounds_2 14 rfl rfl)
theorem dX8_setBounds_63 : decode cX8_setBounds 63 = .ok (.iastore, 1) := dk_79 (dk_at dksX8_setBounds_2 15 rfl rfl)
theorem dX8_setBounds_64 : decode cX8_setBounds 64 = .ok (.aload_n 0, 1) := dk_42 (dk_at dksX8_setBounds_2 16 rfl rfl)
theorem dX8_setBounds_65 : decode cX8_setBounds 65 = .ok (.getfield 34, 3) := dk_180 0 34 (dk_at dksX8_setBounds_2 17 rfl rfl)
theorem dX8_setBounds_68 : decode cX8_setBounds 68 = .ok (.iload_n 1, 1) := dk_27 (dk_at dksX8_setBounds_2 20 rfl rfl)
theorem dX8_setBounds_69 : decode cX8_setBounds 69 = .ok (.iload_n 3, 1) := dk_29 (dk_at dksX8_setBounds_2 21 rfl rfl)
theorem dX8_setBounds_70 : decode cX8_setBounds 70 = .ok (.iastore, 1) := dk_79 (dk_at dksX8_setBounds_2 22 rfl rfl)
theorem dX8_setBounds_71 : decode cX8_setBounds 71 = .ok (.iload 4, 2) := dk_21 4 (dk_at dksX8_setBounds_3 0 rfl rfl)
theorem dX8_setBounds_73 : decode cX8_setBounds 73 = .ok (.ireturn, 1) := dk_172 (dk_at dksX8_setBounds_3 2 rfl rfl)
abbrev cX8_setLease : ByteArray := prog_20_method_30_code
def yX8_setLease : MethodName := ⟨RX8, "setLease", "(II)I"⟩
def dkwX8_setLease_2 : List UInt8 := [180, 0, 37, 27, 28, 79, 42, 182, 0, 245, 29, 172]
abbrev dktX8_setLease_2 : List UInt8 := dkwX8_setLease_2 ++ []
def dkwX8_setLease_1 : List UInt8 := [167, 0, 4, 5, 181, 0, 213, 42, 180, 0, 213, 158, 0, 5, 3, 172, 42, 180, 0, 37, 27, 46, 62, 42]
abbrev dktX8_setLease_1 : List UInt8 := dkwX8_setLease_1 ++ dktX8_setLease_2
def dkwX8_setLease_0 : List UInt8 := [42, 27, 184, 1, 34, 154, 0, 7, 4, 167, 0, 19, 28, 3, 17, 0, 200, 184, 0, 216, 153, 0, 7, 3]
abbrev dktX8_setLease_0 : List UInt8 := dkwX8_setLease_0 ++ dktX8_setLease_1
theorem dksX8_setLease_0 : cX8_setLease.data.toList.drop 0 = dktX8_setLease_0 := by decide +kernel
theorem dksX8_setLease_1 : cX8_setLease.data.toList.drop 24 = dktX8_setLease_1 := dk_seg dksX8_setLease_0 24 rfl rfl
theorem dksX8_setLease_2 : cX8_setLease.data.toList.drop 48 = dktX8_setLease_2 := dk_seg dksX8_setLease_1 24 rfl rfl
theorem dX8_setLease_0 : decode cX8_setLease 0 = .ok (.aload_n 0, 1) := dk_42 (dk_at dksX8_setLease_0 0 rfl rfl)
theorem dX8_setLease_1 : decode cX8_setLease 1 = .ok (.iload_n 1, 1) := dk_27 (dk_at dksX8_setLease_0 1 rfl rfl)
theorem dX8_setLease_2 : decode cX8_setLease 2 = .ok (.invokestatic 290, 3) := dk_184 1 34 (dk_at dksX8_setLease_0 2 rfl rfl)
theorem dX8_setLease_5 : decode cX8_setLease 5 = .ok (.ifCond .ne 7, 3) := dk_154 0 7 (dk_at dksX8_setLease_0 5 rfl rfl)
theorem dX8_setLease_8 : decode cX8_setLease 8 = .ok (.iconst 1, 1) := dk_4 (dk_at dksX8_setLease_0 8 rfl rfl)
theorem dX8_setLease_9 : decode cX8_setLease 9 = .ok (.goto 19, 3) := dk_167 0 19 (dk_at dksX8_setLease_0 9 rfl rfl)
theorem dX8_setLease_12 : decode cX8_setLease 12 = .ok (.iload_n 2, 1) := dk_28 (dk_at dksX8_setLease_0 12 rfl rfl)
theorem dX8_setLease_13 : decode cX8_setLease 13 = .ok (.iconst 0, 1) := dk_3 (dk_at dksX8_setLease_0 13 rfl rfl)
theorem dX8_setLease_14 : decode cX8_setLease 14 = .ok (.sipush 200, 3) := dk_17 0 200 (dk_at dksX8_setLease_0 14 rfl rfl)
theorem dX8_setLease_17 : decode cX8_setLease 17 = .ok (.invokestatic 216, 3) := dk_184 0 216 (dk_at dksX8_setLease_0 17 rfl rfl)
theorem dX8_setLease_20 : decode cX8_setLease 20 = .ok (.ifCond .eq 7, 3) := dk_153 0 7 (dk_at dksX8_setLease_0 20 rfl rfl)
theorem dX8_setLease_23 : decode cX8_setLease 23 = .ok (.iconst 0, 1) := dk_3 (dk_at dksX8_setLease_0 23 rfl rfl)
theorem dX8_setLease_24 : decode cX8_setLease 24 = .ok (.goto 4, 3) := dk_167 0 4 (dk_at dksX8_setLease_1 0 rfl rfl)
theorem dX8_setLease_27 : decode cX8_setLease 27 = .ok (.iconst 2, 1) := dk_5 (dk_at dksX8_setLease_1 3 rfl rfl)
theorem dX8_setLease_28 : decode cX8_setLease 28 = .ok (.putfield 213, 3) := dk_181 0 213 (dk_at dksX8_setLease_1 4 rfl rfl)
theorem dX8_setLease_31 : decode cX8_setLease 31 = .ok (.aload_n 0, 1) := dk_42 (dk_at dksX8_setLease_1 7 rfl rfl)
theorem dX8_setLease_32 : decode cX8_setLease 32 = .ok (.getfield 213, 3) := dk_180 0 213 (dk_at dksX8_setLease_1 8 rfl rfl)
theorem dX8_setLease_35 : decode cX8_setLease 35 = .ok (.ifCond .le 5, 3) := dk_158 0 5 (dk_at dksX8_setLease_1 11 rfl rfl)
theorem dX8_setLease_38 : decode cX8_setLease 38 = .ok (.iconst 0, 1) := dk_3 (dk_at dksX8_setLease_1 14 rfl rfl)
theorem dX8_setLease_39 : decode cX8_setLease 39 = .ok (.ireturn, 1) := dk_172 (dk_at dksX8_setLease_1 15 rfl rfl)
theorem dX8_setLease_40 : decode cX8_setLease 40 = .ok (.aload_n 0, 1) := dk_42 (dk_at dksX8_setLease_1 16 rfl rfl)
theorem dX8_setLease_41 : decode cX8_setLease 41 = .ok (.getfield 37, 3) := dk_180 0 37 (dk_at dksX8_setLease_1 17 rfl rfl)
theorem dX8_setLease_44 : decode cX8_setLease 44 = .ok (.iload_n 1, 1) := dk_27 (dk_at dksX8_setLease_1 20 rfl rfl)
theorem dX8_setLease_45 : decode cX8_setLease 45 = .ok (.iaload, 1) := dk_46 (dk_at dksX8_setLease_1 21 rfl rfl)
theorem dX8_setLease_46 : decode cX8_setLease 46 = .ok (.istore_n 3, 1) := dk_62 (dk_at dksX8_setLease_1 22 rfl rfl)
theorem dX8_setLease_47 : decode cX8_setLease 47 = .ok (.aload_n 0, 1) := dk_42 (dk_at dksX8_setLease_1 23 rfl rfl)
theorem dX8_setLease_48 : decode cX8_setLease 48 = .ok (.getfield 37, 3) := dk_180 0 37 (dk_at dksX8_setLease_2 0 rfl rfl)
theorem dX8_setLease_51 : decode cX8_setLease 51 = .ok (.iload_n 1, 1) := dk_27 (dk_at dksX8_setLease_2 3 rfl rfl)
theorem dX8_setLease_52 : decode cX8_setLease 52 = .ok (.iload_n 2, 1) := dk_28 (dk_at dksX8_setLease_2 4 rfl rfl)
theorem dX8_setLease_53 : decode cX8_setLease 53 = .ok (.iastore, 1) := dk_79 (dk_at dksX8_setLease_2 5 rfl rfl)
theorem dX8_setLease_54 : decode cX8_setLease 54 = .ok (.aload_n 0, 1) := dk_42 (dk_at dksX8_setLease_2 6 rfl rfl)
theorem dX8_setLease_55 : decode cX8_setLease 55 = .ok (.invokevirtual 245, 3) := dk_182 0 245 (dk_at dksX8_setLease_2 7 rfl rfl)
theorem dX8_setLease_58 : decode cX8_setLease 58 = .ok (.iload_n 3, 1) := dk_29 (dk_at dksX8_setLease_2 10 rfl rfl)
theorem dX8_setLease_59 : decode cX8_setLease 59 = .ok (.ireturn, 1) := dk_172 (dk_at dksX8_setLease_2 11 rfl rfl)
abbrev cX8_fail : ByteArray := prog_20_method_31_code
def yX8_fail : MethodName := ⟨RX8, "fail", "(IIZ)I"⟩
def dkwX8_fail_2 : List UInt8 := [42, 180, 0, 40, 27, 28, 79, 42, 180, 0, 43, 27, 29, 84, 21, 4, 172]
abbrev dktX8_fail_2 : List UInt8 := dkwX8_fail_2 ++ []
def dkwX8_fail_1 : List UInt8 := [167, 0, 4, 5, 181, 0, 213, 42, 180, 0, 213, 158, 0, 5, 3, 172, 42, 180, 0, 40, 27, 46, 54, 4]
abbrev dktX8_fail_1 : List UInt8 := dkwX8_fail_1 ++ dktX8_fail_2
def dkwX8_fail_0 : List UInt8 := [42, 27, 184, 1, 34, 154, 0, 7, 4, 167, 0, 18, 28, 3, 16, 20, 184, 0, 216, 153, 0, 7, 3]
abbrev dktX8_fail_0 : List UInt8 := dkwX8_fail_0 ++ dktX8_fail_1
theorem dksX8_fail_0 : cX8_fail.data.toList.drop 0 = dktX8_fail_0 := by decide +kernel
theorem dksX8_fail_1 : cX8_fail.data.toList.drop 23 = dktX8_fail_1 := dk_seg dksX8_fail_0 23 rfl rfl
theorem dksX8_fail_2 : cX8_fail.data.toList.drop 47 = dktX8_fail_2 := dk_seg dksX8_fail_1 24 rfl rfl
theorem dX8_fail_0 : decode cX8_fail 0 = .ok (.aload_n 0, 1) := dk_42 (dk_at dksX8_fail_0 0 rfl rfl)
theorem dX8_fail_1 : decode cX8_fail 1 = .ok (.iload_n 1, 1) := dk_27 (dk_at dksX8_fail_0 1 rfl rfl)
theorem dX8_fail_2 : decode cX8_fail 2 = .ok (.invokestatic 290, 3) := dk_184 1 34 (dk_at dksX8_fail_0 2 rfl rfl)
theorem dX8_fail_5 : decode cX8_fail 5 = .ok (.ifCond .ne 7, 3) := dk_154 0 7 (dk_at dksX8_fail_0 5 rfl rfl)
theorem dX8_fail_8 : decode cX8_fail 8 = .ok (.iconst 1, 1) := dk_4 (dk_at dksX8_fail_0 8 rfl rfl)
theorem dX8_fail_9 : decode cX8_fail 9 = .ok (.goto 18, 3) := dk_167 0 18 (dk_at dksX8_fail_0 9 rfl rfl)
theorem dX8_fail_12 : decode cX8_fail 12 = .ok (.iload_n 2, 1) := dk_28 (dk_at dksX8_fail_0 12 rfl rfl)
theorem dX8_fail_13 : decode cX8_fail 13 = .ok (.iconst 0, 1) := dk_3 (dk_at dksX8_fail_0 13 rfl rfl)
theorem dX8_fail_14 : decode cX8_fail 14 = .ok (.bipush 20, 2) := dk_16 20 (dk_at dksX8_fail_0 14 rfl rfl)
theorem dX8_fail_16 : decode cX8_fail 16 = .ok (.invokestatic 216, 3) := dk_184 0 216 (dk_at dksX8_fail_0 16 rfl rfl)
theorem dX8_fail_19 : decode cX8_fail 19 = .ok (.ifCond .eq 7, 3) := dk_153 0 7 (dk_at dksX8_fail_0 19 rfl rfl)
theorem dX8_fail_22 : decode cX8_fail 22 = .ok (.iconst 0, 1) := dk_3 (dk_at dksX8_fail_0 22 rfl rfl)
theorem dX8_fail_23 : decode cX8_fail 23 = .ok (.goto 4, 3) := dk_167 0 4 (dk_at dksX8_fail_1 0 rfl rfl)
theorem dX8_fail_26 : decode cX8_fail 26 = .ok (.iconst 2, 1) := dk_5 (dk_at dksX8_fail_1 3 rfl rfl)
theorem dX8_fail_27 : decode cX8_fail 27 = .ok (.putfield 213, 3) := dk_181 0 213 (dk_at dksX8_fail_1 4 rfl rfl)
theorem dX8_fail_30 : decode cX8_fail 30 = .ok (.aload_n 0, 1) := dk_42 (dk_at dksX8_fail_1 7 rfl rfl)
theorem dX8_fail_31 : decode cX8_fail 31 = .ok (.getfield 213, 3) := dk_180 0 213 (dk_at dksX8_fail_1 8 rfl rfl)
theorem dX8_fail_34 : decode cX8_fail 34 = .ok (.ifCond .le 5, 3) := dk_158 0 5 (dk_at dksX8_fail_1 11 rfl rfl)
theorem dX8_fail_37 : decode cX8_fail 37 = .ok (.iconst 0, 1) := dk_3 (dk_at dksX8_fail_1 14 rfl rfl)
theorem dX8_fail_38 : decode cX8_fail 38 = .ok (.ireturn, 1) := dk_172 (dk_at dksX8_fail_1 15 rfl rfl)
theorem dX8_fail_39 : decode cX8_fail 39 = .ok (.aload_n 0, 1) := dk_42 (dk_at dksX8_fail_1 16 rfl rfl)
theorem dX8_fail_40 : decode cX8_fail 40 = .ok (.getfield 40, 3) := dk_180 0 40 (dk_at dksX8_fail_1 17 rfl rfl)
theorem dX8_fail_43 : decode cX8_fail 43 = .ok (.iload_n 1, 1) := dk_27 (dk_at dksX8_fail_1 20 rfl rfl)
theorem dX8_fail_44 : decode cX8_fail 44 = .ok (.iaload, 1) := dk_46 (dk_at dksX8_fail_1 21 rfl rfl)
theorem dX8_fail_45 : decode cX8_fail 45 = .ok (.istore 4, 2) := dk_54 4 (dk_at dksX8_fail_1 22 rfl rfl)
theorem dX8_fail_47 : decode cX8_fail 47 = .ok (.aload_n 0, 1) := dk_42 (dk_at dksX8_fail_2 0 rfl rfl)
theorem dX8_fail_48 : decode cX8_fail 48 = .ok (.getfield 40, 3) := dk_180 0 40 (dk_at dksX8_fail_2 1 rfl rfl)
theorem dX8_fail_51 : decode cX8_fail 51 = .ok (.iload_n 1, 1) := dk_27 (dk_at dksX8_fail_2 4 rfl rfl)
theorem dX8_fail_52 : decode cX8_fail 52 = .ok (.iload_n 2, 1) := dk_28 (dk_at dksX8_fail_2 5 rfl rfl)
theorem dX8_fail_53 : decode cX8_fail 53 = .ok (.iastore, 1) := dk_79 (dk_at dksX8_fail_2 6 rfl rfl)
theorem dX8_fail_54 : decode cX8_fail 54 = .ok (.aload_n 0, 1) := dk_42 (dk_at dksX8_fail_2 7 rfl rfl)
theorem dX8_fail_55 : decode cX8_fail 55 = .ok (.getfield 43, 3) := dk_180 0 43 (dk_at dksX8_fail_2 8 rfl rfl)
theorem dX8_fail_58 : decode cX8_fail 58 = .ok (.iload_n 1, 1) := dk_27 (dk_at dksX8_fail_2 11 rfl rfl)
theorem dX8_fail_59 : decode cX8_fail 59 = .ok (.iload_n 3, 1) := dk_29 (dk_at dksX8_fail_2 12 rfl rfl)
theorem dX8_fail_60 : decode cX8_fail 60 = .ok (.bastore, 1) := dk_84 (dk_at dksX8_fail_2 13 rfl rfl)
theorem dX8_fail_61 : decode cX8_fail 61 = .ok (.iload 4, 2) := dk_21 4 (dk_at dksX8_fail_2 14 rfl rfl)
theorem dX8_fail_63 : decode cX8_fail 63 = .ok (.ireturn, 1) := dk_172 (dk_at dksX8_fail_2 16 rfl rfl)
abbrev cX8_forbid : ByteArray := prog_20_method_32_code
def yX8_forbid : MethodName := ⟨RX8, "forbid", "(IIZ)Z"⟩
def dkwX8_forbid_3 : List UInt8 := [120, 2, 130, 126, 79, 21, 4, 172]
abbrev dktX8_forbid_3 : List UInt8 := dkwX8_forbid_3 ++ []
def dkwX8_forbid_2 : List UInt8 := [153, 0, 16, 42, 180, 0, 59, 27, 46, 4, 28, 120, 128, 167, 0, 15, 42, 180, 0, 59, 27, 46, 4, 28]
abbrev dktX8_forbid_2 : List UInt8 := dkwX8_forbid_2 ++ dktX8_forbid_3
def dkwX8_forbid_1 : List UInt8 := [180, 0, 213, 158, 0, 5, 3, 172, 42, 27, 28, 182, 1, 37, 54, 4, 42, 180, 0, 59, 27, 29]
abbrev dktX8_forbid_1 : List UInt8 := dkwX8_forbid_1 ++ dktX8_forbid_2
def dkwX8_forbid_0 : List UInt8 := [42, 27, 184, 1, 14, 153, 0, 14, 28, 184, 1, 34, 153, 0, 7, 3, 167, 0, 4, 4, 181, 0, 213, 42]
abbrev dktX8_forbid_0 : List UInt8 := dkwX8_forbid_0 ++ dktX8_forbid_1
theorem dksX8_forbid_0 : cX8_forbid.data.toList.drop 0 = dktX8_forbid_0 := by decide +kernel
theorem dksX8_forbid_1 : cX8_forbid.data.toList.drop 24 = dktX8_forbid_1 := dk_seg dksX8_forbid_0 24 rfl rfl
theorem dksX8_forbid_2 : cX8_forbid.data.toList.drop 46 = dktX8_forbid_2 := dk_seg dksX8_forbid_1 22 rfl rfl
theorem dksX8_forbid_3 : cX8_forbid.data.toList.drop 70 = dktX8_forbid_3 := dk_seg dksX8_forbid_2 24 rfl rfl
theorem dX8_forbid_0 : decode cX8_forbid 0 = .ok (.aload_n 0, 1) := dk_42 (dk_at dksX8_forbid_0 0 rfl rfl)
theorem dX8_forbid_1 : decode cX8_forbid 1 = .ok (.iload_n 1, 1) := dk_27 (dk_at dksX8_forbid_0 1 rfl rfl)
theorem dX8_forbid_2 : decode cX8_forbid 2 = .ok (.invokestatic 270, 3) := dk_184 1 14 (dk_at dksX8_forbid_0 2 rfl rfl)
theorem dX8_forbid_5 : decode cX8_forbid 5 = .ok (.ifCond .eq 14, 3) := dk_153 0 14 (dk_at dksX8_forbid_0 5 rfl rfl)
theorem dX8_forbid_8 : decode cX8_forbid 8 = .ok (.iload_n 2, 1) := dk_28 (dk_at dksX8_forbid_0 8 rfl rfl)
theorem dX8_forbid_9 : decode cX8_forbid 9 = .ok (.invokestatic 290, 3) := dk_184 1 34 (dk_at dksX8_forbid_0 9 rfl rfl)
theorem dX8_forbid_12 : decode cX8_forbid 12 = .ok (.ifCond .eq 7, 3) := dk_153 0 7 (dk_at dksX8_forbid_0 12 rfl rfl)
theorem dX8_forbid_15 : decode cX8_forbid 15 = .ok (.iconst 0, 1) := dk_3 (dk_at dksX8_forbid_0 15 rfl rfl)
theorem dX8_forbid_16 : decode cX8_forbid 16 = .ok (.goto 4, 3) := dk_167 0 4 (dk_at dksX8_forbid_0 16 rfl rfl)
theorem dX8_forbid_19 : decode cX8_forbid 19 = .ok (.iconst 1, 1) := dk_4 (dk_at dksX8_forbid_0 19 rfl rfl)
theorem dX8_forbid_20 : decode cX8_forbid 20 = .ok (.putfield 213, 3) := dk_181 0 213 (dk_at dksX8_forbid_0 20 rfl rfl)
theorem dX8_forbid_23 : decode cX8_forbid 23 = .ok (.aload_n 0, 1) := dk_42 (dk_at dksX8_forbid_0 23 rfl rfl)
theorem dX8_forbid_24 : decode cX8_forbid 24 = .ok (.getfield 213, 3) := dk_180 0 213 (dk_at dksX8_forbid_1 0 rfl rfl)
theorem dX8_forbid_27 : decode cX8_forbid 27 = .ok (.ifCond .le 5, 3) := dk_158 0 5 (dk_at dksX8_forbid_1 3 rfl rfl)
theorem dX8_forbid_30 : decode cX8_forbid 30 = .ok (.iconst 0, 1) := dk_3 (dk_at dksX8_forbid_1 6 rfl rfl)
theorem dX8_forbid_31 : decode cX8_forbid 31 = .ok (.ireturn, 1) := dk_172 (dk_at dksX8_forbid_1 7 rfl rfl)
theorem dX8_forbid_32 : decode cX8_forbid 32 = .ok (.aload_n 0, 1) := dk_42 (dk_at dksX8_forbid_1 8 rfl rfl)
theorem dX8_forbid_33 : decode cX8_forbid 33 = .ok (.iload_n 1, 1) := dk_27 (dk_at dksX8_forbid_1 9 rfl rfl)
theorem dX8_forbid_34 : decode cX8_forbid 34 = .ok (.iload_n 2, 1) := dk_28 (dk_at dksX8_forbid_1 10 rfl rfl)
theorem dX8_forbid_35 : decode cX8_forbid 35 = .ok (.invokevirtual 293, 3) := dk_182 1 37 (dk_at dksX8_forbid_1 11 rfl rfl)
theorem dX8_forbid_38 : decode cX8_forbid 38 = .ok (.istore 4, 2) := dk_54 4 (dk_at dksX8_forbid_1 14 rfl rfl)
theorem dX8_forbid_40 : decode cX8_forbid 40 = .ok (.aload_n 0, 1) := dk_42 (dk_at dksX8_forbid_1 16 rfl rfl)
theorem dX8_forbid_41 : decode cX8_forbid 41 = .ok (.getfield 59, 3) := dk_180 0 59 (dk_at dksX8_forbid_1 17 rfl rfl)
theorem dX8_forbid_44 : decode cX8_forbid 44 = .ok (.iload_n 1, 1) := dk_27 (dk_at dksX8_forbid_1 20 rfl rfl)
theorem dX8_forbid_45 : decode cX8_forbid 45 = .ok (.iload_n 3, 1) := dk_29 (dk_at dksX8_forbid_1 21 rfl rfl)
theorem dX8_forbid_46 : decode cX8_forbid 46 = .ok (.ifCond .eq 16, 3) := dk_153 0 16 (dk_at dksX8_forbid_2 0 rfl rfl)
theorem dX8_forbid_49 : decode cX8_forbid 49 = .ok (.aload_n 0, 1) := dk_42 (dk_at dksX8_forbid_2 3 rfl rfl)
theorem dX8_forbid_50 : decode cX8_forbid 50 = .ok (.getfield 59, 3) := dk_180 0 59 (dk_at dksX8_forbid_2 4 rfl rfl)
theorem dX8_forbid_53 : decode cX8_forbid 53 = .ok (.iload_n 1, 1) := dk_27 (dk_at dksX8_forbid_2 7 rfl rfl)
theorem dX8_forbid_54 : decode cX8_forbid 54 = .ok (.iaload, 1) := dk_46 (dk_at dksX8_forbid_2 8 rfl rfl)
theorem dX8_forbid_55 : decode cX8_forbid 55 = .ok (.iconst 1, 1) := dk_4 (dk_at dksX8_forbid_2 9 rfl rfl)
theorem dX8_forbid_56 : decode cX8_forbid 56 = .ok (.iload_n 2, 1) := dk_28 (dk_at dksX8_forbid_2 10 rfl rfl)
theorem dX8_forbid_57 : decode cX8_forbid 57 = .ok (.ishl, 1) := dk_120 (dk_at dksX8_forbid_2 11 rfl rfl)
theorem dX8_forbid_58 : decode cX8_forbid 58 = .ok (.ior, 1) := dk_128 (dk_at dksX8_forbid_2 12 rfl rfl)
theorem dX8_forbid_59 : decode cX8_forbid 59 = .ok (.goto 15, 3) := dk_167 0 15 (dk_at dksX8_forbid_2 13 rfl rfl)
theorem dX8_forbid_62 : decode cX8_forbid 62 = .ok (.aload_n 0, 1) := dk_42 (dk_at dksX8_forbid_2 16 rfl rfl)
theorem dX8_forbid_63 : decode cX8_forbid 63 = .ok (.getfield 59, 3) := dk_180 0 59 (dk_at dksX8_forbid_2 17 rfl rfl)
theorem dX8_forbid_66 : decode cX8_forbid 66 = .ok (.iload_n 1, 1) := dk_27 (dk_at dksX8_forbid_2 20 rfl rfl)
theorem dX8_forbid_67 : decode cX8_forbid 67 = .ok (.iaload, 1) := dk_46 (dk_at dksX8_forbid_2 21 rfl rfl)
theorem dX8_forbid_68 : decode cX8_forbid 68 = .ok (.iconst 1, 1) := dk_4 (dk_at dksX8_forbid_2 22 rfl rfl)
theorem dX8_forbid_69 : decode cX8_forbid 69 = .ok (.iload_n 2, 1) := dk_28 (dk_at dksX8_forbid_2 23 rfl rfl)
theorem dX8_forbid_70 : decode cX8_forbid 70 = .ok (.ishl, 1) := dk_120 (dk_at dksX8_forbid_3 0 rfl rfl)
theorem dX8_forbid_71 : decode cX8_forbid 71 = .ok (.iconst (-1), 1) := dk_2 (dk_at dksX8_forbid_3 1 rfl rfl)
theorem dX8_forbid_72 : decode cX8_forbid 72 = .ok (.ixor, 1) := dk_130 (dk_at dksX8_forbid_3 2 rfl rfl)
theorem dX8_forbid_73 : decode cX8_forbid 73 = .ok (.iand, 1) := dk_126 (dk_at dksX8_forbid_3 3 rfl rfl)
theorem dX8_forbid_74 : decode cX8_forbid 74 = .ok (.iastore, 1) := dk_79 (dk_at dksX8_forbid_3 4 rfl rfl)
theorem dX8_forbid_75 : decode cX8_forbid 75 = .ok (.iload 4, 2) := dk_21 4 (dk_at dksX8_forbid_3 5 rfl rfl)
theorem dX8_forbid_77 : decode cX8_forbid 77 = .ok (.ireturn, 1) := dk_172 (dk_at dksX8_forbid_3 7 rfl rfl)
abbrev cX8_isForbidden : ByteArray := prog_20_method_33_code
def yX8_isForbidden : MethodName := ⟨RX8, "isForbidden", "(II)Z"⟩
def dkwX8_isForbidden_0 : List UInt8 := [42, 180, 0, 59, 27, 46, 28, 122, 4, 126, 4, 160, 0, 7, 4, 167, 0, 4, 3, 172]
abbrev dktX8_isForbidden_0 : List UInt8 := dkwX8_isForbidden_0 ++ []
theorem dksX8_isForbidden_0 : cX8_isForbidden.data.toList.drop 0 = dktX8_isForbidden_0 := by decide +kernel
theorem dX8_isForbidden_0 : decode cX8_isForbidden 0 = .ok (.aload_n 0, 1) := dk_42 (dk_at dksX8_isForbidden_0 0 rfl rfl)
theorem dX8_isForbidden_1 : decode cX8_isForbidden 1 = .ok (.getfield 59, 3) := dk_180 0 59 (dk_at dksX8_isForbidden_0 1 rfl rfl)
theorem dX8_isForbidden_4 : decode cX8_isForbidden 4 = .ok (.iload_n 1, 1) := dk_27 (dk_at dksX8_isForbidden_0 4 rfl rfl)
theorem dX8_isForbidden_5 : decode cX8_isForbidden 5 = .ok (.iaload, 1) := dk_46 (dk_at dksX8_isForbidden_0 5 rfl rfl)
theorem dX8_isForbidden_6 : decode cX8_isForbidden 6 = .ok (.iload_n 2, 1) := dk_28 (dk_at dksX8_isForbidden_0 6 rfl rfl)
theorem dX8_isForbidden_7 : decode cX8_isForbidden 7 = .ok (.ishr, 1) := dk_122 (dk_at dksX8_isForbidden_0 7 rfl rfl)
theorem dX8_isForbidden_8 : decode cX8_isForbidden 8 = .ok (.iconst 1, 1) := dk_4 (dk_at dksX8_isForbidden_0 8 rfl rfl)
theorem dX8_isForbidden_9 : decode cX8_isForbidden 9 = .ok (.iand, 1) := dk_126 (dk_at dksX8_isForbidden_0 9 rfl rfl)
theorem dX8_isForbidden_10 : decode cX8_isForbidden 10 = .ok (.iconst 1, 1) := dk_4 (dk_at dksX8_isForbidden_0 10 rfl rfl)
theorem dX8_isForbidden_11 : decode cX8_isForbidden 11 = .ok (.if_icmp .ne 7, 3) := dk_160 0 7 (dk_at dksX8_isForbidden_0 11 rfl rfl)
theorem dX8_isForbidden_14 : decode cX8_isForbidden 14 = .ok (.iconst 1, 1) := dk_4 (dk_at dksX8_isForbidden_0 14 rfl rfl)
theorem dX8_isForbidden_15 : decode cX8_isForbidden 15 = .ok (.goto 4, 3) := dk_167 0 4 (dk_at dksX8_isForbidden_0 15 rfl rfl)
theorem dX8_isForbidden_18 : decode cX8_isForbidden 18 = .ok (.iconst 0, 1) := dk_3 (dk_at dksX8_isForbidden_0 18 rfl rfl)
theorem dX8_isForbidden_19 : decode cX8_isForbidden 19 = .ok (.ireturn, 1) := dk_172 (dk_at dksX8_isForbidden_0 19 rfl rfl)
abbrev cX8_pass : ByteArray := prog_20_method_35_code
def yX8_pass : MethodName := ⟨RX8, "pass", "(I)I"⟩
def dkwX8_pass_1 : List UInt8 := [158, 0, 5, 3, 172, 42, 27, 182, 1, 40, 42, 180, 0, 235, 172]
abbrev dktX8_pass_1 : List UInt8 := dkwX8_pass_1 ++ []
def dkwX8_pass_0 : List UInt8 := [42, 27, 4, 16, 100, 184, 0, 216, 153, 0, 7, 3, 167, 0, 4, 4, 181, 0, 213, 42, 180, 0, 213]
abbrev dktX8_pass_0 : List UInt8 := dkwX8_pass_0 ++ dktX8_pass_1
theorem dksX8_pass_0 : cX8_pass.data.toList.drop 0 = dktX8_pass_0 := by decide +kernel
theorem dksX8_pass_1 : cX8_pass.data.toList.drop 23 = dktX8_pass_1 := dk_seg dksX8_pass_0 23 rfl rfl
theorem dX8_pass_0 : decode cX8_pass 0 = .ok (.aload_n 0, 1) := dk_42 (dk_at dksX8_pass_0 0 rfl rfl)
theorem dX8_pass_1 : decode cX8_pass 1 = .ok (.iload_n 1, 1) := dk_27 (dk_at dksX8_pass_0 1 rfl rfl)
theorem dX8_pass_2 : decode cX8_pass 2 = .ok (.iconst 1, 1) := dk_4 (dk_at dksX8_pass_0 2 rfl rfl)
theorem dX8_pass_3 : decode cX8_pass 3 = .ok (.bipush 100, 2) := dk_16 100 (dk_at dksX8_pass_0 3 rfl rfl)
theorem dX8_pass_5 : decode cX8_pass 5 = .ok (.invokestatic 216, 3) := dk_184 0 216 (dk_at dksX8_pass_0 5 rfl rfl)
theorem dX8_pass_8 : decode cX8_pass 8 = .ok (.ifCond .eq 7, 3) := dk_153 0 7 (dk_at dksX8_pass_0 8 rfl rfl)
theorem dX8_pass_11 : decode cX8_pass 11 = .ok (.iconst 0, 1) := dk_3 (dk_at dksX8_pass_0 11 rfl rfl)
theorem dX8_pass_12 : decode cX8_pass 12 = .ok (.goto 4, 3) := dk_167 0 4 (dk_at dksX8_pass_0 12 rfl rfl)
theorem dX8_pass_15 : decode cX8_pass 15 = .ok (.iconst 1, 1) := dk_4 (dk_at dksX8_pass_0 15 rfl rfl)
theorem dX8_pass_16 : decode cX8_pass 16 = .ok (.putfield 213, 3) := dk_181 0 213 (dk_at dksX8_pass_0 16 rfl rfl)
theorem dX8_pass_19 : decode cX8_pass 19 = .ok (.aload_n 0, 1) := dk_42 (dk_at dksX8_pass_0 19 rfl rfl)
theorem dX8_pass_20 : decode cX8_pass 20 = .ok (.getfield 213, 3) := dk_180 0 213 (dk_at dksX8_pass_0 20 rfl rfl)
theorem dX8_pass_23 : decode cX8_pass 23 = .ok (.ifCond .le 5, 3) := dk_158 0 5 (dk_at dksX8_pass_1 0 rfl rfl)
theorem dX8_pass_26 : decode cX8_pass 26 = .ok (.iconst 0, 1) := dk_3 (dk_at dksX8_pass_1 3 rfl rfl)
theorem dX8_pass_27 : decode cX8_pass 27 = .ok (.ireturn, 1) := dk_172 (dk_at dksX8_pass_1 4 rfl rfl)
theorem dX8_pass_28 : decode cX8_pass 28 = .ok (.aload_n 0, 1) := dk_42 (dk_at dksX8_pass_1 5 rfl rfl)
theorem dX8_pass_29 : decode cX8_pass 29 = .ok (.iload_n 1, 1) := dk_27 (dk_at dksX8_pass_1 6 rfl rfl)
theorem dX8_pass_30 : decode cX8_pass 30 = .ok (.invokevirtual 296, 3) := dk_182 1 40 (dk_at dksX8_pass_1 7 rfl rfl)
theorem dX8_pass_33 : decode cX8_pass 33 = .ok (.aload_n 0, 1) := dk_42 (dk_at dksX8_pass_1 10 rfl rfl)
theorem dX8_pass_34 : decode cX8_pass 34 = .ok (.getfield 235, 3) := dk_180 0 235 (dk_at dksX8_pass_1 11 rfl rfl)
theorem dX8_pass_37 : decode cX8_pass 37 = .ok (.ireturn, 1) := dk_172 (dk_at dksX8_pass_1 14 rfl rfl)
abbrev cX8_goes : ByteArray := prog_20_method_34_code
def yX8_goes : MethodName := ⟨RX8, "goes", "(I)V"⟩
def dkwX8_goes_0 : List UInt8 := [42, 89, 180, 0, 235, 27, 96, 181, 0, 235, 42, 182, 0, 245, 177]
abbrev dktX8_goes_0 : List UInt8 := dkwX8_goes_0 ++ []
theorem dksX8_goes_0 : cX8_goes.data.toList.drop 0 = dktX8_goes_0 := by decide +kernel
theorem dX8_goes_0 : decode cX8_goes 0 = .ok (.aload_n 0, 1) := dk_42 (dk_at dksX8_goes_0 0 rfl rfl)
theorem dX8_goes_1 : decode cX8_goes 1 = .ok (.dup, 1) := dk_89 (dk_at dksX8_goes_0 1 rfl rfl)
theorem dX8_goes_2 : decode cX8_goes 2 = .ok (.getfield 235, 3) := dk_180 0 235 (dk_at dksX8_goes_0 2 rfl rfl)
theorem dX8_goes_5 : decode cX8_goes 5 = .ok (.iload_n 1, 1) := dk_27 (dk_at dksX8_goes_0 5 rfl rfl)
theorem dX8_goes_6 : decode cX8_goes 6 = .ok (.iadd, 1) := dk_96 (dk_at dksX8_goes_0 6 rfl rfl)
theorem dX8_goes_7 : decode cX8_goes 7 = .ok (.putfield 235, 3) := dk_181 0 235 (dk_at dksX8_goes_0 7 rfl rfl)
theorem dX8_goes_10 : decode cX8_goes 10 = .ok (.aload_n 0, 1) := dk_42 (dk_at dksX8_goes_0 10 rfl rfl)
theorem dX8_goes_11 : decode cX8_goes 11 = .ok (.invokevirtual 245, 3) := dk_182 0 245 (dk_at dksX8_goes_0 11 rfl rfl)
theorem dX8_goes_14 : decode cX8_goes 14 = .ok (.return_, 1) := dk_177 (dk_at dksX8_goes_0 14 rfl rfl)
abbrev cX8_now : ByteArray := prog_20_method_36_code
def yX8_now : MethodName := ⟨RX8, "now", "()I"⟩
def dkwX8_now_0 : List UInt8 := [42, 3, 181, 0, 213, 42, 180, 0, 235, 172]
abbrev dktX8_now_0 : List UInt8 := dkwX8_now_0 ++ []
theorem dksX8_now_0 : cX8_now.data.toList.drop 0 = dktX8_now_0 := by decide +kernel
theorem dX8_now_0 : decode cX8_now 0 = .ok (.aload_n 0, 1) := dk_42 (dk_at dksX8_now_0 0 rfl rfl)
theorem dX8_now_1 : decode cX8_now 1 = .ok (.iconst 0, 1) := dk_3 (dk_at dksX8_now_0 1 rfl rfl)
theorem dX8_now_2 : decode cX8_now 2 = .ok (.putfield 213, 3) := dk_181 0 213 (dk_at dksX8_now_0 2 rfl rfl)
theorem dX8_now_5 : decode cX8_now 5 = .ok (.aload_n 0, 1) := dk_42 (dk_at dksX8_now_0 5 rfl rfl)
theorem dX8_now_6 : decode cX8_now 6 = .ok (.getfield 235, 3) := dk_180 0 235 (dk_at dksX8_now_0 6 rfl rfl)
theorem dX8_now_9 : decode cX8_now 9 = .ok (.ireturn, 1) := dk_172 (dk_at dksX8_now_0 9 rfl rfl)
abbrev cX8_seat : ByteArray := prog_20_method_39_code
def yX8_seat : MethodName := ⟨RX8, "seat", "(I)I"⟩
def dkwX8_seat_2 : List UInt8 := [89, 180, 1, 43, 4, 96, 181, 1, 43, 42, 180, 1, 43, 4, 100, 172]
abbrev dktX8_seat_2 : List UInt8 := dkwX8_seat_2 ++ []
def dkwX8_seat_1 : List UInt8 := [3, 181, 0, 213, 42, 180, 0, 213, 158, 0, 5, 3, 172, 42, 180, 0, 65, 42, 180, 1, 43, 27, 79, 42]
abbrev dktX8_seat_1 : List UInt8 := dkwX8_seat_1 ++ dktX8_seat_2
def dkwX8_seat_0 : List UInt8 := [42, 27, 184, 1, 14, 154, 0, 7, 4, 167, 0, 16, 42, 180, 1, 43, 6, 160, 0, 7, 5, 167, 0, 4]
abbrev dktX8_seat_0 : List UInt8 := dkwX8_seat_0 ++ dktX8_seat_1
theorem dksX8_seat_0 : cX8_seat.data.toList.drop 0 = dktX8_seat_0 := by decide +kernel
theorem dksX8_seat_1 : cX8_seat.data.toList.drop 24 = dktX8_seat_1 := dk_seg dksX8_seat_0 24 rfl rfl
theorem dksX8_seat_2 : cX8_seat.data.toList.drop 48 = dktX8_seat_2 := dk_seg dksX8_seat_1 24 rfl rfl
theorem dX8_seat_0 : decode cX8_seat 0 = .ok (.aload_n 0, 1) := dk_42 (dk_at dksX8_seat_0 0 rfl rfl)
theorem dX8_seat_1 : decode cX8_seat 1 = .ok (.iload_n 1, 1) := dk_27 (dk_at dksX8_seat_0 1 rfl rfl)
theorem dX8_seat_2 : decode cX8_seat 2 = .ok (.invokestatic 270, 3) := dk_184 1 14 (dk_at dksX8_seat_0 2 rfl rfl)
theorem dX8_seat_5 : decode cX8_seat 5 = .ok (.ifCond .ne 7, 3) := dk_154 0 7 (dk_at dksX8_seat_0 5 rfl rfl)
theorem dX8_seat_8 : decode cX8_seat 8 = .ok (.iconst 1, 1) := dk_4 (dk_at dksX8_seat_0 8 rfl rfl)
theorem dX8_seat_9 : decode cX8_seat 9 = .ok (.goto 16, 3) := dk_167 0 16 (dk_at dksX8_seat_0 9 rfl rfl)
theorem dX8_seat_12 : decode cX8_seat 12 = .ok (.aload_n 0, 1) := dk_42 (dk_at dksX8_seat_0 12 rfl rfl)
theorem dX8_seat_13 : decode cX8_seat 13 = .ok (.getfield 299, 3) := dk_180 1 43 (dk_at dksX8_seat_0 13 rfl rfl)
theorem dX8_seat_16 : decode cX8_seat 16 = .ok (.iconst 3, 1) := dk_6 (dk_at dksX8_seat_0 16 rfl rfl)
theorem dX8_seat_17 : decode cX8_seat 17 = .ok (.if_icmp .ne 7, 3) := dk_160 0 7 (dk_at dksX8_seat_0 17 rfl rfl)
theorem dX8_seat_20 : decode cX8_seat 20 = .ok (.iconst 2, 1) := dk_5 (dk_at dksX8_seat_0 20 rfl rfl)
theorem dX8_seat_21 : decode cX8_seat 21 = .ok (.goto 4, 3) := dk_167 0 4 (dk_at dksX8_seat_0 21 rfl rfl)
theorem dX8_seat_24 : decode cX8_seat 24 = .ok (.iconst 0, 1) := dk_3 (dk_at dksX8_seat_1 0 rfl rfl)
theorem dX8_seat_25 : decode cX8_seat 25 = .ok (.putfield 213, 3) := dk_181 0 213 (dk_at dksX8_seat_1 1 rfl rfl)
theorem dX8_seat_28 : decode cX8_seat 28 = .ok (.aload_n 0, 1) := dk_42 (dk_at dksX8_seat_1 4 rfl rfl)
theorem dX8_seat_29 : decode cX8_seat 29 = .ok (.getfield 213, 3) := dk_180 0 213 (dk_at dksX8_seat_1 5 rfl rfl)
theorem dX8_seat_32 : decode cX8_seat 32 = .ok (.ifCond .le 5, 3) := dk_158 0 5 (dk_at dksX8_seat_1 8 rfl rfl)
theorem dX8_seat_35 : decode cX8_seat 35 = .ok (.iconst 0, 1) := dk_3 (dk_at dksX8_seat_1 11 rfl rfl)
theorem dX8_seat_36 : decode cX8_seat 36 = .ok (.ireturn, 1) := dk_172 (dk_at dksX8_seat_1 12 rfl rfl)
theorem dX8_seat_37 : decode cX8_seat 37 = .ok (.aload_n 0, 1) := dk_42 (dk_at dksX8_seat_1 13 rfl rfl)
theorem dX8_seat_38 : decode cX8_seat 38 = .ok (.getfield 65, 3) := dk_180 0 65 (dk_at dksX8_seat_1 14 rfl rfl)
theorem dX8_seat_41 : decode cX8_seat 41 = .ok (.aload_n 0, 1) := dk_42 (dk_at dksX8_seat_1 17 rfl rfl)
theorem dX8_seat_42 : decode cX8_seat 42 = .ok (.getfield 299, 3) := dk_180 1 43 (dk_at dksX8_seat_1 18 rfl rfl)
theorem dX8_seat_45 : decode cX8_seat 45 = .ok (.iload_n 1, 1) := dk_27 (dk_at dksX8_seat_1 21 rfl rfl)
theorem dX8_seat_46 : decode cX8_seat 46 = .ok (.iastore, 1) := dk_79 (dk_at dksX8_seat_1 22 rfl rfl)
theorem dX8_seat_47 : decode cX8_seat 47 = .ok (.aload_n 0, 1) := dk_42 (dk_at dksX8_seat_1 23 rfl rfl)
theorem dX8_seat_48 : decode cX8_seat 48 = .ok (.dup, 1) := dk_89 (dk_at dksX8_seat_2 0 rfl rfl)
theorem dX8_seat_49 : decode cX8_seat 49 = .ok (.getfield 299, 3) := dk_180 1 43 (dk_at dksX8_seat_2 1 rfl rfl)
theorem dX8_seat_52 : decode cX8_seat 52 = .ok (.iconst 1, 1) := dk_4 (dk_at dksX8_seat_2 4 rfl rfl)
theorem dX8_seat_53 : decode cX8_seat 53 = .ok (.iadd, 1) := dk_96 (dk_at dksX8_seat_2 5 rfl rfl)
theorem dX8_seat_54 : decode cX8_seat 54 = .ok (.putfield 299, 3) := dk_181 1 43 (dk_at dksX8_seat_2 6 rfl rfl)
theorem dX8_seat_57 : decode cX8_seat 57 = .ok (.aload_n 0, 1) := dk_42 (dk_at dksX8_seat_2 9 rfl rfl)
theorem dX8_seat_58 : decode cX8_seat 58 = .ok (.getfield 299, 3) := dk_180 1 43 (dk_at dksX8_seat_2 10 rfl rfl)
theorem dX8_seat_61 : decode cX8_seat 61 = .ok (.iconst 1, 1) := dk_4 (dk_at dksX8_seat_2 13 rfl rfl)
theorem dX8_seat_62 : decode cX8_seat 62 = .ok (.isub, 1) := dk_100 (dk_at dksX8_seat_2 14 rfl rfl)
theorem dX8_seat_63 : decode cX8_seat 63 = .ok (.ireturn, 1) := dk_172 (dk_at dksX8_seat_2 15 rfl rfl)
abbrev cX8_link : ByteArray := prog_20_method_40_code
def yX8_link : MethodName := ⟨RX8, "link", "(IIII)I"⟩
def dkwX8_link_4 : List UInt8 := [180, 1, 52, 21, 4, 79, 42, 89, 180, 1, 52, 4, 96, 181, 1, 52, 42, 180, 1, 52, 172]
abbrev dktX8_link_4 : List UInt8 := dkwX8_link_4 ++ []
def dkwX8_link_3 : List UInt8 := [180, 0, 71, 42, 180, 1, 52, 28, 79, 42, 180, 0, 74, 42, 180, 1, 52, 29, 79, 42, 180, 0, 77, 42]
abbrev dktX8_link_3 : List UInt8 := dkwX8_link_3 ++ dktX8_link_4
def dkwX8_link_2 : List UInt8 := [181, 0, 213, 42, 180, 0, 213, 158, 0, 5, 3, 172, 42, 180, 0, 68, 42, 180, 1, 52, 27, 79, 42]
abbrev dktX8_link_2 : List UInt8 := dkwX8_link_2 ++ dktX8_link_3
def dkwX8_link_1 : List UInt8 := [29, 27, 163, 0, 7, 5, 167, 0, 16, 42, 180, 1, 52, 6, 160, 0, 7, 6, 167, 0, 4, 3]
abbrev dktX8_link_1 : List UInt8 := dkwX8_link_1 ++ dktX8_link_2
def dkwX8_link_0 : List UInt8 := [42, 42, 27, 28, 182, 1, 49, 153, 0, 13, 42, 29, 21, 4, 182, 1, 49, 154, 0, 7, 4, 167, 0, 25]
abbrev dktX8_link_0 : List UInt8 := dkwX8_link_0 ++ dktX8_link_1
theorem dksX8_link_0 : cX8_link.data.toList.drop 0 = dktX8_link_0 := by decide +kernel
theorem dksX8_link_1 : cX8_link.data.toList.drop 24 = dktX8_link_1 := dk_seg dksX8_link_0 24 rfl rfl
theorem dksX8_link_2 : cX8_link.data.toList.drop 46 = dktX8_link_2 := dk_seg dksX8_link_1 22 rfl rfl
theorem dksX8_link_3 : cX8_link.data.toList.drop 69 = dktX8_link_3 := dk_seg dksX8_link_2 23 rfl rfl
theorem dksX8_link_4 : cX8_link.data.toList.drop 93 = dktX8_link_4 := dk_seg dksX8_link_3 24 rfl rfl
theorem dX8_link_0 : decode cX8_link 0 = .ok (.aload_n 0, 1) := dk_42 (dk_at dksX8_link_0 0 rfl rfl)
theorem dX8_link_1 : decode cX8_link 1 = .ok (.aload_n 0, 1) := dk_42 (dk_at dksX8_link_0 1 rfl rfl)
theorem dX8_link_2 : decode cX8_link 2 = .ok (.iload_n 1, 1) := dk_27 (dk_at dksX8_link_0 2 rfl rfl)
theorem dX8_link_3 : decode cX8_link 3 = .ok (.iload_n 2, 1) := dk_28 (dk_at dksX8_link_0 3 rfl rfl)
theorem dX8_link_4 : decode cX8_link 4 = .ok (.invokevirtual 305, 3) := dk_182 1 49 (dk_at dksX8_link_0 4 rfl rfl)
theorem dX8_link_7 : decode cX8_link 7 = .ok (.ifCond .eq 13, 3) := dk_153 0 13 (dk_at dksX8_link_0 7 rfl rfl)
theorem dX8_link_10 : decode cX8_link 10 = .ok (.aload_n 0, 1) := dk_42 (dk_at dksX8_link_0 10 rfl rfl)
theorem dX8_link_11 : decode cX8_link 11 = .ok (.iload_n 3, 1) := dk_29 (dk_at dksX8_link_0 11 rfl rfl)
theorem dX8_link_12 : decode cX8_link 12 = .ok (.iload 4, 2) := dk_21 4 (dk_at dksX8_link_0 12 rfl rfl)
theorem dX8_link_14 : decode cX8_link 14 = .ok (.invokevirtual 305, 3) := dk_182 1 49 (dk_at dksX8_link_0 14 rfl rfl)
theorem dX8_link_17 : decode cX8_link 17 = .ok (.ifCond .ne 7, 3) := dk_154 0 7 (dk_at dksX8_link_0 17 rfl rfl)
theorem dX8_link_20 : decode cX8_link 20 = .ok (.iconst 1, 1) := dk_4 (dk_at dksX8_link_0 20 rfl rfl)
theorem dX8_link_21 : decode cX8_link 21 = .ok (.goto 25, 3) := dk_167 0 25 (dk_at dksX8_link_0 21 rfl rfl)
theorem dX8_link_24 : decode cX8_link 24 = .ok (.iload_n 3, 1) := dk_29 (dk_at dksX8_link_1 0 rfl rfl)
theorem dX8_link_25 : decode cX8_link 25 = .ok (.iload_n 1, 1) := dk_27 (dk_at dksX8_link_1 1 rfl rfl)
theorem dX8_link_26 : decode cX8_link 26 = .ok (.if_icmp .gt 7, 3) := dk_163 0 7 (dk_at dksX8_link_1 2 rfl rfl)
theorem dX8_link_29 : decode cX8_link 29 = .ok (.iconst 2, 1) := dk_5 (dk_at dksX8_link_1 5 rfl rfl)
theorem dX8_link_30 : decode cX8_link 30 = .ok (.goto 16, 3) := dk_167 0 16 (dk_at dksX8_link_1 6 rfl rfl)
theorem dX8_link_33 : decode cX8_link 33 = .ok (.aload_n 0, 1) := dk_42 (dk_at dksX8_link_1 9 rfl rfl)
theorem dX8_link_34 : decode cX8_link 34 = .ok (.getfield 308, 3) := dk_180 1 52 (dk_at dksX8_link_1 10 rfl rfl)
theorem dX8_link_37 : decode cX8_link 37 = .ok (.iconst 3, 1) := dk_6 (dk_at dksX8_link_1 13 rfl rfl)
theorem dX8_link_38 : decode cX8_link 38 = .ok (.if_icmp .ne 7, 3) := dk_160 0 7 (dk_at dksX8_link_1 14 rfl rfl)
theorem dX8_link_41 : decode cX8_link 41 = .ok (.iconst 3, 1) := dk_6 (dk_at dksX8_link_1 17 rfl rfl)
theorem dX8_link_42 : decode cX8_link 42 = .ok (.goto 4, 3) := dk_167 0 4 (dk_at dksX8_link_1 18 rfl rfl)
theorem dX8_link_45 : decode cX8_link 45 = .ok (.iconst 0, 1) := dk_3 (dk_at dksX8_link_1 21 rfl rfl)
theorem dX8_link_46 : decode cX8_link 46 = .ok (.putfield 213, 3) := dk_181 0 213 (dk_at dksX8_link_2 0 rfl rfl)
theorem dX8_link_49 : decode cX8_link 49 = .ok (.aload_n 0, 1) := dk_42 (dk_at dksX8_link_2 3 rfl rfl)
theorem dX8_link_50 : decode cX8_link 50 = .ok (.getfield 213, 3) := dk_180 0 213 (dk_at dksX8_link_2 4 rfl rfl)
theorem dX8_link_53 : decode cX8_link 53 = .ok (.ifCond .le 5, 3) := dk_158 0 5 (dk_at dksX8_link_2 7 rfl rfl)
theorem dX8_link_56 : decode cX8_link 56 = .ok (.iconst 0, 1) := dk_3 (dk_at dksX8_link_2 10 rfl rfl)
theorem dX8_link_57 : decode cX8_link 57 = .ok (.ireturn, 1) := dk_172 (dk_at dksX8_link_2 11 rfl rfl)
theorem dX8_link_58 : decode cX8_link 58 = .ok (.aload_n 0, 1) := dk_42 (dk_at dksX8_link_2 12 rfl rfl)
theorem dX8_link_59 : decode cX8_link 59 = .ok (.getfield 68, 3) := dk_180 0 68 (dk_at dksX8_link_2 13 rfl rfl)
theorem dX8_link_62 : decode cX8_link 62 = .ok (.aload_n 0, 1) := dk_42 (dk_at dksX8_link_2 16 rfl rfl)
theorem dX8_link_63 : decode cX8_link 63 = .ok (.getfield 308, 3) := dk_180 1 52 (dk_at dksX8_link_2 17 rfl rfl)
theorem dX8_link_66 : decode cX8_link 66 = .ok (.iload_n 1, 1) := dk_27 (dk_at dksX8_link_2 20 rfl rfl)
theorem dX8_link_67 : decode cX8_link 67 = .ok (.iastore, 1) := dk_79 (dk_at dksX8_link_2 21 rfl rfl)
theorem dX8_link_68 : decode cX8_link 68 = .ok (.aload_n 0, 1) := dk_42 (dk_at dksX8_link_2 22 rfl rfl)
theorem dX8_link_69 : decode cX8_link 69 = .ok (.getfield 71, 3) := dk_180 0 71 (dk_at dksX8_link_3 0 rfl rfl)
theorem dX8_link_72 : decode cX8_link 72 = .ok (.aload_n 0, 1) := dk_42 (dk_at dksX8_link_3 3 rfl rfl)
theorem dX8_link_73 : decode cX8_link 73 = .ok (.getfield 308, 3) := dk_180 1 52 (dk_at dksX8_link_3 4 rfl rfl)
theorem dX8_link_76 : decode cX8_link 76 = .ok (.iload_n 2, 1) := dk_28 (dk_at dksX8_link_3 7 rfl rfl)
theorem dX8_link_77 : decode cX8_link 77 = .ok (.iastore, 1) := dk_79 (dk_at dksX8_link_3 8 rfl rfl)
theorem dX8_link_78 : decode cX8_link 78 = .ok (.aload_n 0, 1) := dk_42 (dk_at dksX8_link_3 9 rfl rfl)
theorem dX8_link_79 : decode cX8_link 79 = .ok (.getfield 74, 3) := dk_180 0 74 (dk_at dksX8_link_3 10 rfl rfl)
theorem dX8_link_82 : decode cX8_link 82 = .ok (.aload_n 0, 1) := dk_42 (dk_at dksX8_link_3 13 rfl rfl)
theorem dX8_link_83 : decode cX8_link 83 = .ok (.getfield 308, 3) := dk_180 1 52 (dk_at dksX8_link_3 14 rfl rfl)
theorem dX8_link_86 : decode cX8_link 86 = .ok (.iload_n 3, 1) := dk_29 (dk_at dksX8_link_3 17 rfl rfl)
theorem dX8_link_87 : decode cX8_link 87 = .ok (.iastore, 1) := dk_79 (dk_at dksX8_link_3 18 rfl rfl)
theorem dX8_link_88 : decode cX8_link 88 = .ok (.aload_n 0, 1) := dk_42 (dk_at dksX8_link_3 19 rfl rfl)
theorem dX8_link_89 : decode cX8_link 89 = .ok (.getfield 77, 3) := dk_180 0 77 (dk_at dksX8_link_3 20 rfl rfl)
theorem dX8_link_92 : decode cX8_link 92 = .ok (.aload_n 0, 1) := dk_42 (dk_at dksX8_link_3 23 rfl rfl)
theorem dX8_link_93 : decode cX8_link 93 = .ok (.getfield 308, 3) := dk_180 1 52 (dk_at dksX8_link_4 0 rfl rfl)
theorem dX8_link_96 : decode cX8_link 96 = .ok (.iload 4, 2) := dk_21 4 (dk_at dksX8_link_4 3 rfl rfl)
theorem dX8_link_98 : decode cX8_link 98 = .ok (.iastore, 1) := dk_79 (dk_at dksX8_link_4 5 rfl rfl)
theorem dX8_link_99 : decode cX8_link 99 = .ok (.aload_n 0, 1) := dk_42 (dk_at dksX8_link_4 6 rfl rfl)
theorem dX8_link_100 : decode cX8_link 100 = .ok (.dup, 1) := dk_89 (dk_at dksX8_link_4 7 rfl rfl)
theorem dX8_link_101 : decode cX8_link 101 = .ok (.getfield 308, 3) := dk_180 1 52 (dk_at dksX8_link_4 8 rfl rfl)
theorem dX8_link_104 : decode cX8_link 104 = .ok (.iconst 1, 1) := dk_4 (dk_at dksX8_link_4 11 rfl rfl)
theorem dX8_link_105 : decode cX8_link 105 = .ok (.iadd, 1) := dk_96 (dk_at dksX8_link_4 12 rfl rfl)
theorem dX8_link_106 : decode cX8_link 106 = .ok (.putfield 308, 3) := dk_181 1 52 (dk_at dksX8_link_4 13 rfl rfl)
theorem dX8_link_109 : decode cX8_link 109 = .ok (.aload_n 0, 1) := dk_42 (dk_at dksX8_link_4 16 rfl rfl)
theorem dX8_link_110 : decode cX8_link 110 = .ok (.getfield 308, 3) := dk_180 1 52 (dk_at dksX8_link_4 17 rfl rfl)
theorem dX8_link_113 : decode cX8_link 113 = .ok (.ireturn, 1) := dk_172 (dk_at dksX8_link_4 20 rfl rfl)
abbrev cX8_isSeatColumn : ByteArray := prog_20_method_38_code
def yX8_isSeatColumn : MethodName := ⟨RX8, "isSeatColumn", "(II)Z"⟩
def dkwX8_isSeatColumn_1 : List UInt8 := [167, 0, 4, 3, 172]
abbrev dktX8_isSeatColumn_1 : List UInt8 := dkwX8_isSeatColumn_1 ++ []
def dkwX8_isSeatColumn_0 : List UInt8 := [42, 27, 182, 1, 46, 153, 0, 20, 42, 180, 0, 65, 27, 46, 28, 184, 0, 224, 153, 0, 7, 4]
abbrev dktX8_isSeatColumn_0 : List UInt8 := dkwX8_isSeatColumn_0 ++ dktX8_isSeatColumn_1
theorem dksX8_isSeatColumn_0 : cX8_isSeatColumn.data.toList.drop 0 = dktX8_isSeatColumn_0 := by decide +kernel
theorem dksX8_isSeatColumn_1 : cX8_isSeatColumn.data.toList.drop 22 = dktX8_isSeatColumn_1 := dk_seg dksX8_isSeatColumn_0 22 rfl rfl
theorem dX8_isSeatColumn_0 : decode cX8_isSeatColumn 0 = .ok (.aload_n 0, 1) := dk_42 (dk_at dksX8_isSeatColumn_0 0 rfl rfl)
theorem dX8_isSeatColumn_1 : decode cX8_isSeatColumn 1 = .ok (.iload_n 1, 1) := dk_27 (dk_at dksX8_isSeatColumn_0 1 rfl rfl)
theorem dX8_isSeatColumn_2 : decode cX8_isSeatColumn 2 = .ok (.invokevirtual 302, 3) := dk_182 1 46 (dk_at dksX8_isSeatColumn_0 2 rfl rfl)
theorem dX8_isSeatColumn_5 : decode cX8_isSeatColumn 5 = .ok (.ifCond .eq 20, 3) := dk_153 0 20 (dk_at dksX8_isSeatColumn_0 5 rfl rfl)
theorem dX8_isSeatColumn_8 : decode cX8_isSeatColumn 8 = .ok (.aload_n 0, 1) := dk_42 (dk_at dksX8_isSeatColumn_0 8 rfl rfl)
theorem dX8_isSeatColumn_9 : decode cX8_isSeatColumn 9 = .ok (.getfield 65, 3) := dk_180 0 65 (dk_at dksX8_isSeatColumn_0 9 rfl rfl)
theorem dX8_isSeatColumn_12 : decode cX8_isSeatColumn 12 = .ok (.iload_n 1, 1) := dk_27 (dk_at dksX8_isSeatColumn_0 12 rfl rfl)
theorem dX8_isSeatColumn_13 : decode cX8_isSeatColumn 13 = .ok (.iaload, 1) := dk_46 (dk_at dksX8_isSeatColumn_0 13 rfl rfl)
theorem dX8_isSeatColumn_14 : decode cX8_isSeatColumn 14 = .ok (.iload_n 2, 1) := dk_28 (dk_at dksX8_isSeatColumn_0 14 rfl rfl)
theorem dX8_isSeatColumn_15 : decode cX8_isSeatColumn 15 = .ok (.invokestatic 224, 3) := dk_184 0 224 (dk_at dksX8_isSeatColumn_0 15 rfl rfl)
theorem dX8_isSeatColumn_18 : decode cX8_isSeatColumn 18 = .ok (.ifCond .eq 7, 3) := dk_153 0 7 (dk_at dksX8_isSeatColumn_0 18 rfl rfl)
theorem dX8_isSeatColumn_21 : decode cX8_isSeatColumn 21 = .ok (.iconst 1, 1) := dk_4 (dk_at dksX8_isSeatColumn_0 21 rfl rfl)
theorem dX8_isSeatColumn_22 : decode cX8_isSeatColumn 22 = .ok (.goto 4, 3) := dk_167 0 4 (dk_at dksX8_isSeatColumn_1 0 rfl rfl)
theorem dX8_isSeatColumn_25 : decode cX8_isSeatColumn 25 = .ok (.iconst 0, 1) := dk_3 (dk_at dksX8_isSeatColumn_1 3 rfl rfl)
theorem dX8_isSeatColumn_26 : decode cX8_isSeatColumn 26 = .ok (.ireturn, 1) := dk_172 (dk_at dksX8_isSeatColumn_1 4 rfl rfl)
abbrev cX8_isSeat : ByteArray := prog_20_method_37_code
def yX8_isSeat : MethodName := ⟨RX8, "isSeat", "(I)Z"⟩
def dkwX8_isSeat_0 : List UInt8 := [27, 3, 42, 180, 1, 43, 4, 100, 184, 0, 216, 172]
abbrev dktX8_isSeat_0 : List UInt8 := dkwX8_isSeat_0 ++ []
theorem dksX8_isSeat_0 : cX8_isSeat.data.toList.drop 0 = dktX8_isSeat_0 := by decide +kernel
theorem dX8_isSeat_0 : decode cX8_isSeat 0 = .ok (.iload_n 1, 1) := dk_27 (dk_at dksX8_isSeat_0 0 rfl rfl)
theorem dX8_isSeat_1 : decode cX8_isSeat 1 = .ok (.iconst 0, 1) := dk_3 (dk_at dksX8_isSeat_0 1 rfl rfl)
theorem dX8_isSeat_2 : decode cX8_isSeat 2 = .ok (.aload_n 0, 1) := dk_42 (dk_at dksX8_isSeat_0 2 rfl rfl)
theorem dX8_isSeat_3 : decode cX8_isSeat 3 = .ok (.getfield 299, 3) := dk_180 1 43 (dk_at dksX8_isSeat_0 3 rfl rfl)
theorem dX8_isSeat_6 : decode cX8_isSeat 6 = .ok (.iconst 1, 1) := dk_4 (dk_at dksX8_isSeat_0 6 rfl rfl)
theorem dX8_isSeat_7 : decode cX8_isSeat 7 = .ok (.isub, 1) := dk_100 (dk_at dksX8_isSeat_0 7 rfl rfl)
theorem dX8_isSeat_8 : decode cX8_isSeat 8 = .ok (.invokestatic 216, 3) := dk_184 0 216 (dk_at dksX8_isSeat_0 8 rfl rfl)
theorem dX8_isSeat_11 : decode cX8_isSeat 11 = .ok (.ireturn, 1) := dk_172 (dk_at dksX8_isSeat_0 11 rfl rfl)
abbrev cX8_where : ByteArray := prog_20_method_41_code
def yX8_where : MethodName := ⟨RX8, "where", "(IIII)I"⟩
def dkwX8_where_6 : List UInt8 := [180, 1, 55, 172]
abbrev dktX8_where_6 : List UInt8 := dkwX8_where_6 ++ []
def dkwX8_where_5 : List UInt8 := [79, 42, 180, 0, 89, 42, 180, 1, 55, 21, 4, 79, 42, 89, 180, 1, 55, 4, 96, 181, 1, 55, 42]
abbrev dktX8_where_5 : List UInt8 := dkwX8_where_5 ++ dktX8_where_6
def dkwX8_where_4 : List UInt8 := [180, 1, 55, 27, 79, 42, 180, 0, 83, 42, 180, 1, 55, 28, 79, 42, 180, 0, 86, 42, 180, 1, 55, 29]
abbrev dktX8_where_4 : List UInt8 := dkwX8_where_4 ++ dktX8_where_5
def dkwX8_where_3 : List UInt8 := [6, 167, 0, 4, 3, 181, 0, 213, 42, 180, 0, 213, 158, 0, 5, 3, 172, 42, 180, 0, 80, 42]
abbrev dktX8_where_3 : List UInt8 := dkwX8_where_3 ++ dktX8_where_4
def dkwX8_where_2 : List UInt8 := [154, 0, 7, 4, 167, 0, 25, 21, 5, 154, 0, 7, 5, 167, 0, 16, 42, 180, 1, 55, 7, 160, 0, 7]
abbrev dktX8_where_2 : List UInt8 := dkwX8_where_2 ++ dktX8_where_3
def dkwX8_where_1 : List UInt8 := [167, 0, 8, 21, 4, 154, 0, 7, 4, 167, 0, 4, 3, 54, 5, 42, 42, 27, 28, 182, 1, 49]
abbrev dktX8_where_1 : List UInt8 := dkwX8_where_1 ++ dktX8_where_2
def dkwX8_where_0 : List UInt8 := [29, 3, 7, 184, 0, 216, 153, 0, 28, 29, 6, 162, 0, 14, 21, 4, 184, 0, 228, 153, 0, 15]
abbrev dktX8_where_0 : List UInt8 := dkwX8_where_0 ++ dktX8_where_1
theorem dksX8_where_0 : cX8_where.data.toList.drop 0 = dktX8_where_0 := by decide +kernel
theorem dksX8_where_1 : cX8_where.data.toList.drop 22 = dktX8_where_1 := dk_seg dksX8_where_0 22 rfl rfl
theorem dksX8_where_2 : cX8_where.data.toList.drop 44 = dktX8_where_2 := dk_seg dksX8_where_1 22 rfl rfl
theorem dksX8_where_3 : cX8_where.data.toList.drop 68 = dktX8_where_3 := dk_seg dksX8_where_2 24 rfl rfl
theorem dksX8_where_4 : cX8_where.data.toList.drop 90 = dktX8_where_4 := dk_seg dksX8_where_3 22 rfl rfl
theorem dksX8_where_5 : cX8_where.data.toList.drop 114 = dktX8_where_5 := dk_seg dksX8_where_4 24 rfl rfl
theorem dksX8_where_6 : cX8_where.data.toList.drop 137 = dktX8_where_6 := dk_seg dksX8_where_5 23 rfl rfl
theorem dX8_where_0 : decode cX8_where 0 = .ok (.iload_n 3, 1) := dk_29 (dk_at dksX8_where_0 0 rfl rfl)
theorem dX8_where_1 : decode cX8_where 1 = .ok (.iconst 0, 1) := dk_3 (dk_at dksX8_where_0 1 rfl rfl)
theorem dX8_where_2 : decode cX8_where 2 = .ok (.iconst 4, 1) := dk_7 (dk_at dksX8_where_0 2 rfl rfl)
theorem dX8_where_3 : decode cX8_where 3 = .ok (.invokestatic 216, 3) := dk_184 0 216 (dk_at dksX8_where_0 3 rfl rfl)
theorem dX8_where_6 : decode cX8_where 6 = .ok (.ifCond .eq 28, 3) := dk_153 0 28 (dk_at dksX8_where_0 6 rfl rfl)
theorem dX8_where_9 : decode cX8_where 9 = .ok (.iload_n 3, 1) := dk_29 (dk_at dksX8_where_0 9 rfl rfl)
theorem dX8_where_10 : decode cX8_where 10 = .ok (.iconst 3, 1) := dk_6 (dk_at dksX8_where_0 10 rfl rfl)
theorem dX8_where_11 : decode cX8_where 11 = .ok (.if_icmp .ge 14, 3) := dk_162 0 14 (dk_at dksX8_where_0 11 rfl rfl)
theorem dX8_where_14 : decode cX8_where 14 = .ok (.iload 4, 2) := dk_21 4 (dk_at dksX8_where_0 14 rfl rfl)
theorem dX8_where_16 : decode cX8_where 16 = .ok (.invokestatic 228, 3) := dk_184 0 228 (dk_at dksX8_where_0 16 rfl rfl)
theorem dX8_where_19 : decode cX8_where 19 = .ok (.ifCond .eq 15, 3) := dk_153 0 15 (dk_at dksX8_where_0 19 rfl rfl)
theorem dX8_where_22 : decode cX8_where 22 = .ok (.goto 8, 3) := dk_167 0 8 (dk_at dksX8_where_1 0 rfl rfl)
theorem dX8_where_25 : decode cX8_where 25 = .ok (.iload 4, 2) := dk_21 4 (dk_at dksX8_where_1 3 rfl rfl)
theorem dX8_where_27 : decode cX8_where 27 = .ok (.ifCond .ne 7, 3) := dk_154 0 7 (dk_at dksX8_where_1 5 rfl rfl)
theorem dX8_where_30 : decode cX8_where 30 = .ok (.iconst 1, 1) := dk_4 (dk_at dksX8_where_1 8 rfl rfl)
theorem dX8_where_31 : decode cX8_where 31 = .ok (.goto 4, 3) := dk_167 0 4 (dk_at dksX8_where_1 9 rfl rfl)
theorem dX8_where_34 : decode cX8_where 34 = .ok (.iconst 0, 1) := dk_3 (dk_at dksX8_where_1 12 rfl rfl)
theorem dX8_where_35 : decode cX8_where 35 = .ok (.istore 5, 2) := dk_54 5 (dk_at dksX8_where_1 13 rfl rfl)
theorem dX8_where_37 : decode cX8_where 37 = .ok (.aload_n 0, 1) := dk_42 (dk_at dksX8_where_1 15 rfl rfl)
theorem dX8_where_38 : decode cX8_where 38 = .ok (.aload_n 0, 1) := dk_42 (dk_at dksX8_where_1 16 rfl rfl)
theorem dX8_where_39 : decode cX8_where 39 = .ok (.iload_n 1, 1) := dk_27 (dk_at dksX8_where_1 17 rfl rfl)
theorem dX8_where_40 : decode cX8_where 40 = .ok (.iload_n 2, 1) := dk_28 (dk_at dksX8_where_1 18 rfl rfl)
theorem dX8_where_41 : decode cX8_where 41 = .ok (.invokevirtual 305, 3) := dk_182 1 49 (dk_at dksX8_where_1 19 rfl rfl)
theorem dX8_where_44 : decode cX8_where 44 = .ok (.ifCond .ne 7, 3) := dk_154 0 7 (dk_at dksX8_where_2 0 rfl rfl)
theorem dX8_where_47 : decode cX8_where 47 = .ok (.iconst 1, 1) := dk_4 (dk_at dksX8_where_2 3 rfl rfl)
theorem dX8_where_48 : decode cX8_where 48 = .ok (.goto 25, 3) := dk_167 0 25 (dk_at dksX8_where_2 4 rfl rfl)
theorem dX8_where_51 : decode cX8_where 51 = .ok (.iload 5, 2) := dk_21 5 (dk_at dksX8_where_2 7 rfl rfl)
theorem dX8_where_53 : decode cX8_where 53 = .ok (.ifCond .ne 7, 3) := dk_154 0 7 (dk_at dksX8_where_2 9 rfl rfl)
theorem dX8_where_56 : decode cX8_where 56 = .ok (.iconst 2, 1) := dk_5 (dk_at dksX8_where_2 12 rfl rfl)
theorem dX8_where_57 : decode cX8_where 57 = .ok (.goto 16, 3) := dk_167 0 16 (dk_at dksX8_where_2 13 rfl rfl)
theorem dX8_where_60 : decode cX8_where 60 = .ok (.aload_n 0, 1) := dk_42 (dk_at dksX8_where_2 16 rfl rfl)
theorem dX8_where_61 : decode cX8_where 61 = .ok (.getfield 311, 3) := dk_180 1 55 (dk_at dksX8_where_2 17 rfl rfl)
theorem dX8_where_64 : decode cX8_where 64 = .ok (.iconst 4, 1) := dk_7 (dk_at dksX8_where_2 20 rfl rfl)
theorem dX8_where_65 : decode cX8_where 65 = .ok (.if_icmp .ne 7, 3) := dk_160 0 7 (dk_at dksX8_where_2 21 rfl rfl)
theorem dX8_where_68 : decode cX8_where 68 = .ok (.iconst 3, 1) := dk_6 (dk_at dksX8_where_3 0 rfl rfl)
theorem dX8_where_69 : decode cX8_where 69 = .ok (.goto 4, 3) := dk_167 0 4 (dk_at dksX8_where_3 1 rfl rfl)
theorem dX8_where_72 : decode cX8_where 72 = .ok (.iconst 0, 1) := dk_3 (dk_at dksX8_where_3 4 rfl rfl)
theorem dX8_where_73 : decode cX8_where 73 = .ok (.putfield 213, 3) := dk_181 0 213 (dk_at dksX8_where_3 5 rfl rfl)
theorem dX8_where_76 : decode cX8_where 76 = .ok (.aload_n 0, 1) := dk_42 (dk_at dksX8_where_3 8 rfl rfl)
theorem dX8_where_77 : decode cX8_where 77 = .ok (.getfield 213, 3) := dk_180 0 213 (dk_at dksX8_where_3 9 rfl rfl)
theorem dX8_where_80 : decode cX8_where 80 = .ok (.ifCond .le 5, 3) := dk_158 0 5 (dk_at dksX8_where_3 12 rfl rfl)
theorem dX8_where_83 : decode cX8_where 83 = .ok (.iconst 0, 1) := dk_3 (dk_at dksX8_where_3 15 rfl rfl)
theorem dX8_where_84 : decode cX8_where 84 = .ok (.ireturn, 1) := dk_172 (dk_at dksX8_where_3 16 rfl rfl)
theorem dX8_where_85 : decode cX8_where 85 = .ok (.aload_n 0, 1) := dk_42 (dk_at dksX8_where_3 17 rfl rfl)
theorem dX8_where_86 : decode cX8_where 86 = .ok (.getfield 80, 3) := dk_180 0 80 (dk_at dksX8_where_3 18 rfl rfl)
theorem dX8_where_89 : decode cX8_where 89 = .ok (.aload_n 0, 1) := dk_42 (dk_at dksX8_where_3 21 rfl rfl)
theorem dX8_where_90 : decode cX8_where 90 = .ok (.getfield 311, 3) := dk_180 1 55 (dk_at dksX8_where_4 0 rfl rfl)
theorem dX8_where_93 : decode cX8_where 93 = .ok (.iload_n 1, 1) := dk_27 (dk_at dksX8_where_4 3 rfl rfl)
theorem dX8_where_94 : decode cX8_where 94 = .ok (.iastore, 1) := dk_79 (dk_at dksX8_where_4 4 rfl rfl)
theorem dX8_where_95 : decode cX8_where 95 = .ok (.aload_n 0, 1) := dk_42 (dk_at dksX8_where_4 5 rfl rfl)
theorem dX8_where_96 : decode cX8_where 96 = .ok (.getfield 83, 3) := dk_180 0 83 (dk_at dksX8_where_4 6 rfl rfl)
theorem dX8_where_99 : decode cX8_where 99 = .ok (.aload_n 0, 1) := dk_42 (dk_at dksX8_where_4 9 rfl rfl)
theorem dX8_where_100 : decode cX8_where 100 = .ok (.getfield 311, 3) := dk_180 1 55 (dk_at dksX8_where_4 10 rfl rfl)
theorem dX8_where_103 : decode cX8_where 103 = .ok (.iload_n 2, 1) := dk_28 (dk_at dksX8_where_4 13 rfl rfl)
theorem dX8_where_104 : decode cX8_where 104 = .ok (.iastore, 1) := dk_79 (dk_at dksX8_where_4 14 rfl rfl)
theorem dX8_where_105 : decode cX8_where 105 = .ok (.aload_n 0, 1) := dk_42 (dk_at dksX8_where_4 15 rfl rfl)
theorem dX8_where_106 : decode cX8_where 106 = .ok (.getfield 86, 3) := dk_180 0 86 (dk_at dksX8_where_4 16 rfl rfl)
theorem dX8_where_109 : decode cX8_where 109 = .ok (.aload_n 0, 1) := dk_42 (dk_at dksX8_where_4 19 rfl rfl)
theorem dX8_where_110 : decode cX8_where 110 = .ok (.getfield 311, 3) := dk_180 1 55 (dk_at dksX8_where_4 20 rfl rfl)
theorem dX8_where_113 : decode cX8_where 113 = .ok (.iload_n 3, 1) := dk_29 (dk_at dksX8_where_4 23 rfl rfl)
theorem dX8_where_114 : decode cX8_where 114 = .ok (.iastore, 1) := dk_79 (dk_at dksX8_where_5 0 rfl rfl)
theorem dX8_where_115 : decode cX8_where 115 = .ok (.aload_n 0, 1) := dk_42 (dk_at dksX8_where_5 1 rfl rfl)
theorem dX8_where_116 : decode cX8_where 116 = .ok (.getfield 89, 3) := dk_180 0 89 (dk_at dksX8_where_5 2 rfl rfl)
theorem dX8_where_119 : decode cX8_where 119 = .ok (.aload_n 0, 1) := dk_42 (dk_at dksX8_where_5 5 rfl rfl)
theorem dX8_where_120 : decode cX8_where 120 = .ok (.getfield 311, 3) := dk_180 1 55 (dk_at dksX8_where_5 6 rfl rfl)
theorem dX8_where_123 : decode cX8_where 123 = .ok (.iload 4, 2) := dk_21 4 (dk_at dksX8_where_5 9 rfl rfl)
theorem dX8_where_125 : decode cX8_where 125 = .ok (.iastore, 1) := dk_79 (dk_at dksX8_where_5 11 rfl rfl)
theorem dX8_where_126 : decode cX8_where 126 = .ok (.aload_n 0, 1) := dk_42 (dk_at dksX8_where_5 12 rfl rfl)
theorem dX8_where_127 : decode cX8_where 127 = .ok (.dup, 1) := dk_89 (dk_at dksX8_where_5 13 rfl rfl)
theorem dX8_where_128 : decode cX8_where 128 = .ok (.getfield 311, 3) := dk_180 1 55 (dk_at dksX8_where_5 14 rfl rfl)
theorem dX8_where_131 : decode cX8_where 131 = .ok (.iconst 1, 1) := dk_4 (dk_at dksX8_where_5 17 rfl rfl)
theorem dX8_where_132 : decode cX8_where 132 = .ok (.iadd, 1) := dk_96 (dk_at dksX8_where_5 18 rfl rfl)
theorem dX8_where_133 : decode cX8_where 133 = .ok (.putfield 311, 3) := dk_181 1 55 (dk_at dksX8_where_5 19 rfl rfl)
theorem dX8_where_136 : decode cX8_where 136 = .ok (.aload_n 0, 1) := dk_42 (dk_at dksX8_where_5 22 rfl rfl)
theorem dX8_where_137 : decode cX8_where 137 = .ok (.getfield 311, 3) := dk_180 1 55 (dk_at dksX8_where_6 0 rfl rfl)
theorem dX8_where_140 : decode cX8_where 140 = .ok (.ireturn, 1) := dk_172 (dk_at dksX8_where_6 3 rfl rfl)
abbrev cX8_out : ByteArray := prog_20_method_42_code
def yX8_out : MethodName := ⟨RX8, "out", "(II)I"⟩
def dkwX8_out_3 : List UInt8 := [180, 1, 58, 172]
abbrev dktX8_out_3 : List UInt8 := dkwX8_out_3 ++ []
def dkwX8_out_2 : List UInt8 := [27, 79, 42, 180, 0, 95, 42, 180, 1, 58, 28, 79, 42, 89, 180, 1, 58, 4, 96, 181, 1, 58, 42]
abbrev dktX8_out_2 : List UInt8 := dkwX8_out_2 ++ dktX8_out_3
def dkwX8_out_1 : List UInt8 := [167, 0, 4, 3, 181, 0, 213, 42, 180, 0, 213, 158, 0, 5, 3, 172, 42, 180, 0, 92, 42, 180, 1, 58]
abbrev dktX8_out_1 : List UInt8 := dkwX8_out_1 ++ dktX8_out_2
def dkwX8_out_0 : List UInt8 := [42, 42, 27, 28, 182, 1, 49, 154, 0, 7, 4, 167, 0, 16, 42, 180, 1, 58, 6, 160, 0, 7, 5]
abbrev dktX8_out_0 : List UInt8 := dkwX8_out_0 ++ dktX8_out_1
theorem dksX8_out_0 : cX8_out.data.toList.drop 0 = dktX8_out_0 := by decide +kernel
theorem dksX8_out_1 : cX8_out.data.toList.drop 23 = dktX8_out_1 := dk_seg dksX8_out_0 23 rfl rfl
theorem dksX8_out_2 : cX8_out.data.toList.drop 47 = dktX8_out_2 := dk_seg dksX8_out_1 24 rfl rfl
theorem dksX8_out_3 : cX8_out.data.toList.drop 70 = dktX8_out_3 := dk_seg dksX8_out_2 23 rfl rfl
theorem dX8_out_0 : decode cX8_out 0 = .ok (.aload_n 0, 1) := dk_42 (dk_at dksX8_out_0 0 rfl rfl)
theorem dX8_out_1 : decode cX8_out 1 = .ok (.aload_n 0, 1) := dk_42 (dk_at dksX8_out_0 1 rfl rfl)
theorem dX8_out_2 : decode cX8_out 2 = .ok (.iload_n 1, 1) := dk_27 (dk_at dksX8_out_0 2 rfl rfl)
theorem dX8_out_3 : decode cX8_out 3 = .ok (.iload_n 2, 1) := dk_28 (dk_at dksX8_out_0 3 rfl rfl)
theorem dX8_out_4 : decode cX8_out 4 = .ok (.invokevirtual 305, 3) := dk_182 1 49 (dk_at dksX8_out_0 4 rfl rfl)
theorem dX8_out_7 : decode cX8_out 7 = .ok (.ifCond .ne 7, 3) := dk_154 0 7 (dk_at dksX8_out_0 7 rfl rfl)
theorem dX8_out_10 : decode cX8_out 10 = .ok (.iconst 1, 1) := dk_4 (dk_at dksX8_out_0 10 rfl rfl)
theorem dX8_out_11 : decode cX8_out 11 = .ok (.goto 16, 3) := dk_167 0 16 (dk_at dksX8_out_0 11 rfl rfl)
theorem dX8_out_14 : decode cX8_out 14 = .ok (.aload_n 0, 1) := dk_42 (dk_at dksX8_out_0 14 rfl rfl)
theorem dX8_out_15 : decode cX8_out 15 = .ok (.getfield 314, 3) := dk_180 1 58 (dk_at dksX8_out_0 15 rfl rfl)
theorem dX8_out_18 : decode cX8_out 18 = .ok (.iconst 3, 1) := dk_6 (dk_at dksX8_out_0 18 rfl rfl)
theorem dX8_out_19 : decode cX8_out 19 = .ok (.if_icmp .ne 7, 3) := dk_160 0 7 (dk_at dksX8_out_0 19 rfl rfl)
theorem dX8_out_22 : decode cX8_out 22 = .ok (.iconst 2, 1) := dk_5 (dk_at dksX8_out_0 22 rfl rfl)
theorem dX8_out_23 : decode cX8_out 23 = .ok (.goto 4, 3) := dk_167 0 4 (dk_at dksX8_out_1 0 rfl rfl)
theorem dX8_out_26 : decode cX8_out 26 = .ok (.iconst 0, 1) := dk_3 (dk_at dksX8_out_1 3 rfl rfl)
theorem dX8_out_27 : decode cX8_out 27 = .ok (.putfield 213, 3) := dk_181 0 213 (dk_at dksX8_out_1 4 rfl rfl)
theorem dX8_out_30 : decode cX8_out 30 = .ok (.aload_n 0, 1) := dk_42 (dk_at dksX8_out_1 7 rfl rfl)
theorem dX8_out_31 : decode cX8_out 31 = .ok (.getfield 213, 3) := dk_180 0 213 (dk_at dksX8_out_1 8 rfl rfl)
theorem dX8_out_34 : decode cX8_out 34 = .ok (.ifCond .le 5, 3) := dk_158 0 5 (dk_at dksX8_out_1 11 rfl rfl)
theorem dX8_out_37 : decode cX8_out 37 = .ok (.iconst 0, 1) := dk_3 (dk_at dksX8_out_1 14 rfl rfl)
theorem dX8_out_38 : decode cX8_out 38 = .ok (.ireturn, 1) := dk_172 (dk_at dksX8_out_1 15 rfl rfl)
theorem dX8_out_39 : decode cX8_out 39 = .ok (.aload_n 0, 1) := dk_42 (dk_at dksX8_out_1 16 rfl rfl)
theorem dX8_out_40 : decode cX8_out 40 = .ok (.getfield 92, 3) := dk_180 0 92 (dk_at dksX8_out_1 17 rfl rfl)
theorem dX8_out_43 : decode cX8_out 43 = .ok (.aload_n 0, 1) := dk_42 (dk_at dksX8_out_1 20 rfl rfl)
theorem dX8_out_44 : decode cX8_out 44 = .ok (.getfield 314, 3) := dk_180 1 58 (dk_at dksX8_out_1 21 rfl rfl)
theorem dX8_out_47 : decode cX8_out 47 = .ok (.iload_n 1, 1) := dk_27 (dk_at dksX8_out_2 0 rfl rfl)
theorem dX8_out_48 : decode cX8_out 48 = .ok (.iastore, 1) := dk_79 (dk_at dksX8_out_2 1 rfl rfl)
theorem dX8_out_49 : decode cX8_out 49 = .ok (.aload_n 0, 1) := dk_42 (dk_at dksX8_out_2 2 rfl rfl)
theorem dX8_out_50 : decode cX8_out 50 = .ok (.getfield 95, 3) := dk_180 0 95 (dk_at dksX8_out_2 3 rfl rfl)
theorem dX8_out_53 : decode cX8_out 53 = .ok (.aload_n 0, 1) := dk_42 (dk_at dksX8_out_2 6 rfl rfl)
theorem dX8_out_54 : decode cX8_out 54 = .ok (.getfield 314, 3) := dk_180 1 58 (dk_at dksX8_out_2 7 rfl rfl)
theorem dX8_out_57 : decode cX8_out 57 = .ok (.iload_n 2, 1) := dk_28 (dk_at dksX8_out_2 10 rfl rfl)
theorem dX8_out_58 : decode cX8_out 58 = .ok (.iastore, 1) := dk_79 (dk_at dksX8_out_2 11 rfl rfl)
theorem dX8_out_59 : decode cX8_out 59 = .ok (.aload_n 0, 1) := dk_42 (dk_at dksX8_out_2 12 rfl rfl)
theorem dX8_out_60 : decode cX8_out 60 = .ok (.dup, 1) := dk_89 (dk_at dksX8_out_2 13 rfl rfl)
theorem dX8_out_61 : decode cX8_out 61 = .ok (.getfield 314, 3) := dk_180 1 58 (dk_at dksX8_out_2 14 rfl rfl)
theorem dX8_out_64 : decode cX8_out 64 = .ok (.iconst 1, 1) := dk_4 (dk_at dksX8_out_2 17 rfl rfl)
theorem dX8_out_65 : decode cX8_out 65 = .ok (.iadd, 1) := dk_96 (dk_at dksX8_out_2 18 rfl rfl)
theorem dX8_out_66 : decode cX8_out 66 = .ok (.putfield 314, 3) := dk_181 1 58 (dk_at dksX8_out_2 19 rfl rfl)
theorem dX8_out_69 : decode cX8_out 69 = .ok (.aload_n 0, 1) := dk_42 (dk_at dksX8_out_2 22 rfl rfl)
theorem dX8_out_70 : decode cX8_out 70 = .ok (.getfield 314, 3) := dk_180 1 58 (dk_at dksX8_out_3 0 rfl rfl)
theorem dX8_out_73 : decode cX8_out 73 = .ok (.ireturn, 1) := dk_172 (dk_at dksX8_out_3 3 rfl rfl)
abbrev cX8_shape : ByteArray := prog_20_method_43_code
def yX8_shape : MethodName := ⟨RX8, "shape", "(IZ)V"⟩
def dkwX8_shape_1 : List UInt8 := [154, 0, 13, 42, 27, 181, 0, 98, 42, 28, 181, 1, 61, 177]
abbrev dktX8_shape_1 : List UInt8 := dkwX8_shape_1 ++ []
def dkwX8_shape_0 : List UInt8 := [42, 27, 4, 16, 40, 184, 0, 216, 153, 0, 7, 3, 167, 0, 4, 4, 181, 0, 213, 42, 180, 0, 213]
abbrev dktX8_shape_0 : List UInt8 := dkwX8_shape_0 ++ dktX8_shape_1
theorem dksX8_shape_0 : cX8_shape.data.toList.drop 0 = dktX8_shape_0 := by decide +kernel
theorem dksX8_shape_1 : cX8_shape.data.toList.drop 23 = dktX8_shape_1 := dk_seg dksX8_shape_0 23 rfl rfl
theorem dX8_shape_0 : decode cX8_shape 0 = .ok (.aload_n 0, 1) := dk_42 (dk_at dksX8_shape_0 0 rfl rfl)
theorem dX8_shape_1 : decode cX8_shape 1 = .ok (.iload_n 1, 1) := dk_27 (dk_at dksX8_shape_0 1 rfl rfl)
theorem dX8_shape_2 : decode cX8_shape 2 = .ok (.iconst 1, 1) := dk_4 (dk_at dksX8_shape_0 2 rfl rfl)
theorem dX8_shape_3 : decode cX8_shape 3 = .ok (.bipush 40, 2) := dk_16 40 (dk_at dksX8_shape_0 3 rfl rfl)
theorem dX8_shape_5 : decode cX8_shape 5 = .ok (.invokestatic 216, 3) := dk_184 0 216 (dk_at dksX8_shape_0 5 rfl rfl)
theorem dX8_shape_8 : decode cX8_shape 8 = .ok (.ifCond .eq 7, 3) := dk_153 0 7 (dk_at dksX8_shape_0 8 rfl rfl)
theorem dX8_shape_11 : decode cX8_shape 11 = .ok (.iconst 0, 1) := dk_3 (dk_at dksX8_shape_0 11 rfl rfl)
theorem dX8_shape_12 : decode cX8_shape 12 = .ok (.goto 4, 3) := dk_167 0 4 (dk_at dksX8_shape_0 12 rfl rfl)
theorem dX8_shape_15 : decode cX8_shape 15 = .ok (.iconst 1, 1) := dk_4 (dk_at dksX8_shape_0 15 rfl rfl)
theorem dX8_shape_16 : decode cX8_shape 16 = .ok (.putfield 213, 3) := dk_181 0 213 (dk_at dksX8_shape_0 16 rfl rfl)
theorem dX8_shape_19 : decode cX8_shape 19 = .ok (.aload_n 0, 1) := dk_42 (dk_at dksX8_shape_0 19 rfl rfl)
theorem dX8_shape_20 : decode cX8_shape 20 = .ok (.getfield 213, 3) := dk_180 0 213 (dk_at dksX8_shape_0 20 rfl rfl)
theorem dX8_shape_23 : decode cX8_shape 23 = .ok (.ifCond .ne 13, 3) := dk_154 0 13 (dk_at dksX8_shape_1 0 rfl rfl)
theorem dX8_shape_26 : decode cX8_shape 26 = .ok (.aload_n 0, 1) := dk_42 (dk_at dksX8_shape_1 3 rfl rfl)
theorem dX8_shape_27 : decode cX8_shape 27 = .ok (.iload_n 1, 1) := dk_27 (dk_at dksX8_shape_1 4 rfl rfl)
theorem dX8_shape_28 : decode cX8_shape 28 = .ok (.putfield 98, 3) := dk_181 0 98 (dk_at dksX8_shape_1 5 rfl rfl)
theorem dX8_shape_31 : decode cX8_shape 31 = .ok (.aload_n 0, 1) := dk_42 (dk_at dksX8_shape_1 8 rfl rfl)
theorem dX8_shape_32 : decode cX8_shape 32 = .ok (.iload_n 2, 1) := dk_28 (dk_at dksX8_shape_1 9 rfl rfl)
theorem dX8_shape_33 : decode cX8_shape 33 = .ok (.putfield 317, 3) := dk_181 1 61 (dk_at dksX8_shape_1 10 rfl rfl)
theorem dX8_shape_36 : decode cX8_shape 36 = .ok (.return_, 1) := dk_177 (dk_at dksX8_shape_1 13 rfl rfl)
abbrev cX8_clear : ByteArray := prog_20_method_44_code
def yX8_clear : MethodName := ⟨RX8, "clear", "()I"⟩
def dkwX8_clear_1 : List UInt8 := [181, 1, 55, 42, 3, 181, 1, 58, 42, 16, 40, 181, 0, 98, 42, 3, 181, 1, 61, 27, 172]
abbrev dktX8_clear_1 : List UInt8 := dkwX8_clear_1 ++ []
def dkwX8_clear_0 : List UInt8 := [42, 3, 181, 0, 213, 42, 180, 1, 43, 60, 42, 3, 181, 1, 43, 42, 3, 181, 1, 52, 42, 3]
abbrev dktX8_clear_0 : List UInt8 := dkwX8_clear_0 ++ dktX8_clear_1
theorem dksX8_clear_0 : cX8_clear.data.toList.drop 0 = dktX8_clear_0 := by decide +kernel
theorem dksX8_clear_1 : cX8_clear.data.toList.drop 22 = dktX8_clear_1 := dk_seg dksX8_clear_0 22 rfl rfl
theorem dX8_clear_0 : decode cX8_clear 0 = .ok (.aload_n 0, 1) := dk_42 (dk_at dksX8_clear_0 0 rfl rfl)
theorem dX8_clear_1 : decode cX8_clear 1 = .ok (.iconst 0, 1) := dk_3 (dk_at dksX8_clear_0 1 rfl rfl)
theorem dX8_clear_2 : decode cX8_clear 2 = .ok (.putfield 213, 3) := dk_181 0 213 (dk_at dksX8_clear_0 2 rfl rfl)
theorem dX8_clear_5 : decode cX8_clear 5 = .ok (.aload_n 0, 1) := dk_42 (dk_at dksX8_clear_0 5 rfl rfl)
theorem dX8_clear_6 : decode cX8_clear 6 = .ok (.getfield 299, 3) := dk_180 1 43 (dk_at dksX8_clear_0 6 rfl rfl)
theorem dX8_clear_9 : decode cX8_clear 9 = .ok (.istore_n 1, 1) := dk_60 (dk_at dksX8_clear_0 9 rfl rfl)
theorem dX8_clear_10 : decode cX8_clear 10 = .ok (.aload_n 0, 1) := dk_42 (dk_at dksX8_clear_0 10 rfl rfl)
theorem dX8_clear_11 : decode cX8_clear 11 = .ok (.iconst 0, 1) := dk_3 (dk_at dksX8_clear_0 11 rfl rfl)
theorem dX8_clear_12 : decode cX8_clear 12 = .ok (.putfield 299, 3) := dk_181 1 43 (dk_at dksX8_clear_0 12 rfl rfl)
theorem dX8_clear_15 : decode cX8_clear 15 = .ok (.aload_n 0, 1) := dk_42 (dk_at dksX8_clear_0 15 rfl rfl)
theorem dX8_clear_16 : decode cX8_clear 16 = .ok (.iconst 0, 1) := dk_3 (dk_at dksX8_clear_0 16 rfl rfl)
theorem dX8_clear_17 : decode cX8_clear 17 = .ok (.putfield 308, 3) := dk_181 1 52 (dk_at dksX8_clear_0 17 rfl rfl)
theorem dX8_clear_20 : decode cX8_clear 20 = .ok (.aload_n 0, 1) := dk_42 (dk_at dksX8_clear_0 20 rfl rfl)
theorem dX8_clear_21 : decode cX8_clear 21 = .ok (.iconst 0, 1) := dk_3 (dk_at dksX8_clear_0 21 rfl rfl)
theorem dX8_clear_22 : decode cX8_clear 22 = .ok (.putfield 311, 3) := dk_181 1 55 (dk_at dksX8_clear_1 0 rfl rfl)
theorem dX8_clear_25 : decode cX8_clear 25 = .ok (.aload_n 0, 1) := dk_42 (dk_at dksX8_clear_1 3 rfl rfl)
theorem dX8_clear_26 : decode cX8_clear 26 = .ok (.iconst 0, 1) := dk_3 (dk_at dksX8_clear_1 4 rfl rfl)
theorem dX8_clear_27 : decode cX8_clear 27 = .ok (.putfield 314, 3) := dk_181 1 58 (dk_at dksX8_clear_1 5 rfl rfl)
theorem dX8_clear_30 : decode cX8_clear 30 = .ok (.aload_n 0, 1) := dk_42 (dk_at dksX8_clear_1 8 rfl rfl)
theorem dX8_clear_31 : decode cX8_clear 31 = .ok (.bipush 40, 2) := dk_16 40 (dk_at dksX8_clear_1 9 rfl rfl)
theorem dX8_clear_33 : decode cX8_clear 33 = .ok (.putfield 98, 3) := dk_181 0 98 (dk_at dksX8_clear_1 11 rfl rfl)
theorem dX8_clear_36 : decode cX8_clear 36 = .ok (.aload_n 0, 1) := dk_42 (dk_at dksX8_clear_1 14 rfl rfl)
theorem dX8_clear_37 : decode cX8_clear 37 = .ok (.iconst 0, 1) := dk_3 (dk_at dksX8_clear_1 15 rfl rfl)
theorem dX8_clear_38 : decode cX8_clear 38 = .ok (.putfield 317, 3) := dk_181 1 61 (dk_at dksX8_clear_1 16 rfl rfl)
theorem dX8_clear_41 : decode cX8_clear 41 = .ok (.iload_n 1, 1) := dk_27 (dk_at dksX8_clear_1 19 rfl rfl)
theorem dX8_clear_42 : decode cX8_clear 42 = .ok (.ireturn, 1) := dk_172 (dk_at dksX8_clear_1 20 rfl rfl)
abbrev cX8_ask : ByteArray := prog_20_method_81_code
def yX8_ask : MethodName := ⟨RX8, "ask", "(II)I"⟩
def dkwX8_ask_8 : List UInt8 := [181, 0, 183, 42, 180, 1, 219, 172]
abbrev dktX8_ask_8 : List UInt8 := dkwX8_ask_8 ++ []
def dkwX8_ask_7 : List UInt8 := [180, 0, 180, 29, 42, 180, 0, 168, 29, 46, 79, 132, 3, 1, 167, 255, 235, 42, 42, 182, 1, 225]
abbrev dktX8_ask_7 : List UInt8 := dkwX8_ask_7 ++ dktX8_ask_8
def dkwX8_ask_6 : List UInt8 := [42, 180, 1, 173, 181, 1, 219, 42, 42, 180, 1, 186, 181, 1, 222, 3, 62, 29, 16, 120, 162, 0, 21, 42]
abbrev dktX8_ask_6 : List UInt8 := dkwX8_ask_6 ++ dktX8_ask_7
def dkwX8_ask_5 : List UInt8 := [42, 180, 1, 43, 162, 0, 14, 42, 42, 182, 1, 208, 182, 1, 212, 167, 255, 237, 42, 4, 182, 1, 215, 42]
abbrev dktX8_ask_5 : List UInt8 := dkwX8_ask_5 ++ dktX8_ask_6
def dkwX8_ask_4 : List UInt8 := [3, 62, 29, 6, 162, 0, 16, 42, 180, 0, 138, 29, 3, 84, 132, 3, 1, 167, 255, 241, 42, 180, 1, 167]
abbrev dktX8_ask_4 : List UInt8 := dkwX8_ask_4 ++ dktX8_ask_5
def dkwX8_ask_3 : List UInt8 := [3, 181, 1, 164, 42, 3, 181, 1, 86, 42, 3, 181, 1, 80, 42, 3, 181, 1, 108, 42, 3, 181, 1, 167]
abbrev dktX8_ask_3 : List UInt8 := dkwX8_ask_3 ++ dktX8_ask_4
def dkwX8_ask_2 : List UInt8 := [158, 0, 5, 3, 172, 42, 42, 180, 0, 235, 181, 1, 74, 42, 27, 181, 1, 124, 42, 28, 181, 1, 77, 42]
abbrev dktX8_ask_2 : List UInt8 := dkwX8_ask_2 ++ dktX8_ask_3
def dkwX8_ask_1 : List UInt8 := [167, 0, 15, 42, 182, 1, 205, 153, 0, 7, 3, 167, 0, 4, 5, 181, 0, 213, 42, 180, 0, 213]
abbrev dktX8_ask_1 : List UInt8 := dkwX8_ask_1 ++ dktX8_ask_2
def dkwX8_ask_0 : List UInt8 := [42, 27, 3, 17, 0, 200, 184, 0, 216, 153, 0, 14, 28, 3, 17, 0, 200, 184, 0, 216, 154, 0, 7, 4]
abbrev dktX8_ask_0 : List UInt8 := dkwX8_ask_0 ++ dktX8_ask_1
theorem dksX8_ask_0 : cX8_ask.data.toList.drop 0 = dktX8_ask_0 := by decide +kernel
theorem dksX8_ask_1 : cX8_ask.data.toList.drop 24 = dktX8_ask_1 := dk_seg dksX8_ask_0 24 rfl rfl
theorem dksX8_ask_2 : cX8_ask.data.toList.drop 46 = dktX8_ask_2 := dk_seg dksX8_ask_1 22 rfl rfl
theorem dksX8_ask_3 : cX8_ask.data.toList.drop 70 = dktX8_ask_3 := dk_seg dksX8_ask_2 24 rfl rfl
theorem dksX8_ask_4 : cX8_ask.data.toList.drop 94 = dktX8_ask_4 := dk_seg dksX8_ask_3 24 rfl rfl
theorem dksX8_ask_5 : cX8_ask.data.toList.drop 118 = dktX8_ask_5 := dk_seg dksX8_ask_4 24 rfl rfl
theorem dksX8_ask_6 : cX8_ask.data.toList.drop 142 = dktX8_ask_6 := dk_seg dksX8_ask_5 24 rfl rfl
theorem dksX8_ask_7 : cX8_ask.data.toList.drop 166 = dktX8_ask_7 := dk_seg dksX8_ask_6 24 rfl rfl
theorem dksX8_ask_8 : cX8_ask.data.toList.drop 188 = dktX8_ask_8 := dk_seg dksX8_ask_7 22 rfl rfl
theorem dX8_ask_0 : decode cX8_ask 0 = .ok (.aload_n 0, 1) := dk_42 (dk_at dksX8_ask_0 0 rfl rfl)
theorem dX8_ask_1 : decode cX8_ask 1 = .ok (.iload_n 1, 1) := dk_27 (dk_at dksX8_ask_0 1 rfl rfl)
theorem dX8_ask_2 : decode cX8_ask 2 = .ok (.iconst 0, 1) := dk_3 (dk_at dksX8_ask_0 2 rfl rfl)
theorem dX8_ask_3 : decode cX8_ask 3 = .ok (.sipush 200, 3) := dk_17 0 200 (dk_at dksX8_ask_0 3 rfl rfl)
theorem dX8_ask_6 : decode cX8_ask 6 = .ok (.invokestatic 216, 3) := dk_184 0 216 (dk_at dksX8_ask_0 6 rfl rfl)
theorem dX8_ask_9 : decode cX8_ask 9 = .ok (.ifCond .eq 14, 3) := dk_153 0 14 (dk_at dksX8_ask_0 9 rfl rfl)
theorem dX8_ask_12 : decode cX8_ask 12 = .ok (.iload_n 2, 1) := dk_28 (dk_at dksX8_ask_0 12 rfl rfl)
theorem dX8_ask_13 : decode cX8_ask 13 = .ok (.iconst 0, 1) := dk_3 (dk_at dksX8_ask_0 13 rfl rfl)
theorem dX8_ask_14 : decode cX8_ask 14 = .ok (.sipush 200, 3) := dk_17 0 200 (dk_at dksX8_ask_0 14 rfl rfl)
theorem dX8_ask_17 : decode cX8_ask 17 = .ok (.invokestatic 216, 3) := dk_184 0 216 (dk_at dksX8_ask_0 17 rfl rfl)
theorem dX8_ask_20 : decode cX8_ask 20 = .ok (.ifCond .ne 7, 3) := dk_154 0 7 (dk_at dksX8_ask_0 20 rfl rfl)
theorem dX8_ask_23 : decode cX8_ask 23 = .ok (.iconst 1, 1) := dk_4 (dk_at dksX8_ask_0 23 rfl rfl)
theorem dX8_ask_24 : decode cX8_ask 24 = .ok (.goto 15, 3) := dk_167 0 15 (dk_at dksX8_ask_1 0 rfl rfl)
theorem dX8_ask_27 : decode cX8_ask 27 = .ok (.aload_n 0, 1) := dk_42 (dk_at dksX8_ask_1 3 rfl rfl)
theorem dX8_ask_28 : decode cX8_ask 28 = .ok (.invokevirtual 461, 3) := dk_182 1 205 (dk_at dksX8_ask_1 4 rfl rfl)
theorem dX8_ask_31 : decode cX8_ask 31 = .ok (.ifCond .eq 7, 3) := dk_153 0 7 (dk_at dksX8_ask_1 7 rfl rfl)
theorem dX8_ask_34 : decode cX8_ask 34 = .ok (.iconst 0, 1) := dk_3 (dk_at dksX8_ask_1 10 rfl rfl)
theorem dX8_ask_35 : decode cX8_ask 35 = .ok (.goto 4, 3) := dk_167 0 4 (dk_at dksX8_ask_1 11 rfl rfl)
theorem dX8_ask_38 : decode cX8_ask 38 = .ok (.iconst 2, 1) := dk_5 (dk_at dksX8_ask_1 14 rfl rfl)
theorem dX8_ask_39 : decode cX8_ask 39 = .ok (.putfield 213, 3) := dk_181 0 213 (dk_at dksX8_ask_1 15 rfl rfl)
theorem dX8_ask_42 : decode cX8_ask 42 = .ok (.aload_n 0, 1) := dk_42 (dk_at dksX8_ask_1 18 rfl rfl)
theorem dX8_ask_43 : decode cX8_ask 43 = .ok (.getfield 213, 3) := dk_180 0 213 (dk_at dksX8_ask_1 19 rfl rfl)
theorem dX8_ask_46 : decode cX8_ask 46 = .ok (.ifCond .le 5, 3) := dk_158 0 5 (dk_at dksX8_ask_2 0 rfl rfl)
theorem dX8_ask_49 : decode cX8_ask 49 = .ok (.iconst 0, 1) := dk_3 (dk_at dksX8_ask_2 3 rfl rfl)
theorem dX8_ask_50 : decode cX8_ask 50 = .ok (.ireturn, 1) := dk_172 (dk_at dksX8_ask_2 4 rfl rfl)
theorem dX8_ask_51 : decode cX8_ask 51 = .ok (.aload_n 0, 1) := dk_42 (dk_at dksX8_ask_2 5 rfl rfl)
theorem dX8_ask_52 : decode cX8_ask 52 = .ok (.aload_n 0, 1) := dk_42 (dk_at dksX8_ask_2 6 rfl rfl)
theorem dX8_ask_53 : decode cX8_ask 53 = .ok (.getfield 235, 3) := dk_180 0 235 (dk_at dksX8_ask_2 7 rfl rfl)
theorem dX8_ask_56 : decode cX8_ask 56 = .ok (.putfield 330, 3) := dk_181 1 74 (dk_at dksX8_ask_2 10 rfl rfl)
theorem dX8_ask_59 : decode cX8_ask 59 = .ok (.aload_n 0, 1) := dk_42 (dk_at dksX8_ask_2 13 rfl rfl)
theorem dX8_ask_60 : decode cX8_ask 60 = .ok (.iload_n 1, 1) := dk_27 (dk_at dksX8_ask_2 14 rfl rfl)
theorem dX8_ask_61 : decode cX8_ask 61 = .ok (.putfield 380, 3) := dk_181 1 124 (dk_at dksX8_ask_2 15 rfl rfl)
theorem dX8_ask_64 : decode cX8_ask 64 = .ok (.aload_n 0, 1) := dk_42 (dk_at dksX8_ask_2 18 rfl rfl)
theorem dX8_ask_65 : decode cX8_ask 65 = .ok (.iload_n 2, 1) := dk_28 (dk_at dksX8_ask_2 19 rfl rfl)
theorem dX8_ask_66 : decode cX8_ask 66 = .ok (.putfield 333, 3) := dk_181 1 77 (dk_at dksX8_ask_2 20 rfl rfl)
theorem dX8_ask_69 : decode cX8_ask 69 = .ok (.aload_n 0, 1) := dk_42 (dk_at dksX8_ask_2 23 rfl rfl)
theorem dX8_ask_70 : decode cX8_ask 70 = .ok (.iconst 0, 1) := dk_3 (dk_at dksX8_ask_3 0 rfl rfl)
theorem dX8_ask_71 : decode cX8_ask 71 = .ok (.putfield 420, 3) := dk_181 1 164 (dk_at dksX8_ask_3 1 rfl rfl)
theorem dX8_ask_74 : decode cX8_ask 74 = .ok (.aload_n 0, 1) := dk_42 (dk_at dksX8_ask_3 4 rfl rfl)
theorem dX8_ask_75 : decode cX8_ask 75 = .ok (.iconst 0, 1) := dk_3 (dk_at dksX8_ask_3 5 rfl rfl)
theorem dX8_ask_76 : decode cX8_ask 76 = .ok (.putfield 342, 3) := dk_181 1 86 (dk_at dksX8_ask_3 6 rfl rfl)
theorem dX8_ask_79 : decode cX8_ask 79 = .ok (.aload_n 0, 1) := dk_42 (dk_at dksX8_ask_3 9 rfl rfl)
theorem dX8_ask_80 : decode cX8_ask 80 = .ok (.iconst 0, 1) := dk_3 (dk_at dksX8_ask_3 10 rfl rfl)
theorem dX8_ask_81 : decode cX8_ask 81 = .ok (.putfield 336, 3) := dk_181 1 80 (dk_at dksX8_ask_3 11 rfl rfl)
theorem dX8_ask_84 : decode cX8_ask 84 = .ok (.aload_n 0, 1) := dk_42 (dk_at dksX8_ask_3 14 rfl rfl)
theorem dX8_ask_85 : decode cX8_ask 85 = .ok (.iconst 0, 1) := dk_3 (dk_at dksX8_ask_3 15 rfl rfl)
theorem dX8_ask_86 : decode cX8_ask 86 = .ok (.putfield 364, 3) := dk_181 1 108 (dk_at dksX8_ask_3 16 rfl rfl)
theorem dX8_ask_89 : decode cX8_ask 89 = .ok (.aload_n 0, 1) := dk_42 (dk_at dksX8_ask_3 19 rfl rfl)
theorem dX8_ask_90 : decode cX8_ask 90 = .ok (.iconst 0, 1) := dk_3 (dk_at dksX8_ask_3 20 rfl rfl)
theorem dX8_ask_91 : decode cX8_ask 91 = .ok (.putfield 423, 3) := dk_181 1 167 (dk_at dksX8_ask_3 21 rfl rfl)
theorem dX8_ask_94 : decode cX8_ask 94 = .ok (.iconst 0, 1) := dk_3 (dk_at dksX8_ask_4 0 rfl rfl)
theorem dX8_ask_95 : decode cX8_ask 95 = .ok (.istore_n 3, 1) := dk_62 (dk_at dksX8_ask_4 1 rfl rfl)
theorem dX8_ask_96 : decode cX8_ask 96 = .ok (.iload_n 3, 1) := dk_29 (dk_at dksX8_ask_4 2 rfl rfl)
theorem dX8_ask_97 : decode cX8_ask 97 = .ok (.iconst 3, 1) := dk_6 (dk_at dksX8_ask_4 3 rfl rfl)
theorem dX8_ask_98 : decode cX8_ask 98 = .ok (.if_icmp .ge 16, 3) := dk_162 0 16 (dk_at dksX8_ask_4 4 rfl rfl)
theorem dX8_ask_101 : decode cX8_ask 101 = .ok (.aload_n 0, 1) := dk_42 (dk_at dksX8_ask_4 7 rfl rfl)
theorem dX8_ask_102 : decode cX8_ask 102 = .ok (.getfield 138, 3) := dk_180 0 138 (dk_at dksX8_ask_4 8 rfl rfl)
theorem dX8_ask_105 : decode cX8_ask 105 = .ok (.iload_n 3, 1) := dk_29 (dk_at dksX8_ask_4 11 rfl rfl)
theorem dX8_ask_106 : decode cX8_ask 106 = .ok (.iconst 0, 1) := dk_3 (dk_at dksX8_ask_4 12 rfl rfl)
theorem dX8_ask_107 : decode cX8_ask 107 = .ok (.bastore, 1) := dk_84 (dk_at dksX8_ask_4 13 rfl rfl)
theorem dX8_ask_108 : decode cX8_ask 108 = .ok (.iinc 3 1, 3) := dk_132 3 1 (dk_at dksX8_ask_4 14 rfl rfl)
theorem dX8_ask_111 : decode cX8_ask 111 = .ok (.goto (-15), 3) := dk_167 255 241 (dk_at dksX8_ask_4 17 rfl rfl)
theorem dX8_ask_114 : decode cX8_ask 114 = .ok (.aload_n 0, 1) := dk_42 (dk_at dksX8_ask_4 20 rfl rfl)
theorem dX8_ask_115 : decode cX8_ask 115 = .ok (.getfield 423, 3) := dk_180 1 167 (dk_at dksX8_ask_4 21 rfl rfl)
theorem dX8_ask_118 : decode cX8_ask 118 = .ok (.aload_n 0, 1) := dk_42 (dk_at dksX8_ask_5 0 rfl rfl)
theorem dX8_ask_119 : decode cX8_ask 119 = .ok (.getfield 299, 3) := dk_180 1 43 (dk_at dksX8_ask_5 1 rfl rfl)
theorem dX8_ask_122 : decode cX8_ask 122 = .ok (.if_icmp .ge 14, 3) := dk_162 0 14 (dk_at dksX8_ask_5 4 rfl rfl)
theorem dX8_ask_125 : decode cX8_ask 125 = .ok (.aload_n 0, 1) := dk_42 (dk_at dksX8_ask_5 7 rfl rfl)
theorem dX8_ask_126 : decode cX8_ask 126 = .ok (.aload_n 0, 1) := dk_42 (dk_at dksX8_ask_5 8 rfl rfl)
theorem dX8_ask_127 : decode cX8_ask 127 = .ok (.invokevirtual 464, 3) := dk_182 1 208 (dk_at dksX8_ask_5 9 rfl rfl)
theorem dX8_ask_130 : decode cX8_ask 130 = .ok (.invokevirtual 468, 3) := dk_182 1 212 (dk_at dksX8_ask_5 12 rfl rfl)
theorem dX8_ask_133 : decode cX8_ask 133 = .ok (.goto (-19), 3) := dk_167 255 237 (dk_at dksX8_ask_5 15 rfl rfl)
theorem dX8_ask_136 : decode cX8_ask 136 = .ok (.aload_n 0, 1) := dk_42 (dk_at dksX8_ask_5 18 rfl rfl)
theorem dX8_ask_137 : decode cX8_ask 137 = .ok (.iconst 1, 1) := dk_4 (dk_at dksX8_ask_5 19 rfl rfl)
theorem dX8_ask_138 : decode cX8_ask 138 = .ok (.invokevirtual 471, 3) := dk_182 1 215 (dk_at dksX8_ask_5 20 rfl rfl)
theorem dX8_ask_141 : decode cX8_ask 141 = .ok (.aload_n 0, 1) := dk_42 (dk_at dksX8_ask_5 23 rfl rfl)
theorem dX8_ask_142 : decode cX8_ask 142 = .ok (.aload_n 0, 1) := dk_42 (dk_at dksX8_ask_6 0 rfl rfl)
theorem dX8_ask_143 : decode cX8_ask 143 = .ok (.getfield 429, 3) := dk_180 1 173 (dk_at dksX8_ask_6 1 rfl rfl)
theorem dX8_ask_146 : decode cX8_ask 146 = .ok (.putfield 475, 3) := dk_181 1 219 (dk_at dksX8_ask_6 4 rfl rfl)
theorem dX8_ask_149 : decode cX8_ask 149 = .ok (.aload_n 0, 1) := dk_42 (dk_at dksX8_ask_6 7 rfl rfl)
theorem dX8_ask_150 : decode cX8_ask 150 = .ok (.aload_n 0, 1) := dk_42 (dk_at dksX8_ask_6 8 rfl rfl)
theorem dX8_ask_151 : decode cX8_ask 151 = .ok (.getfield 442, 3) := dk_180 1 186 (dk_at dksX8_ask_6 9 rfl rfl)
theorem dX8_ask_154 : decode cX8_ask 154 = .ok (.putfield 478, 3) := dk_181 1 222 (dk_at dksX8_ask_6 12 rfl rfl)
theorem dX8_ask_157 : decode cX8_ask 157 = .ok (.iconst 0, 1) := dk_3 (dk_at dksX8_ask_6 15 rfl rfl)
theorem dX8_ask_158 : decode cX8_ask 158 = .ok (.istore_n 3, 1) := dk_62 (dk_at dksX8_ask_6 16 rfl rfl)
theorem dX8_ask_159 : decode cX8_ask 159 = .ok (.iload_n 3, 1) := dk_29 (dk_at dksX8_ask_6 17 rfl rfl)
theorem dX8_ask_160 : decode cX8_ask 160 = .ok (.bipush 120, 2) := dk_16 120 (dk_at dksX8_ask_6 18 rfl rfl)
theorem dX8_ask_162 : decode cX8_ask 162 = .ok (.if_icmp .ge 21, 3) := dk_162 0 21 (dk_at dksX8_ask_6 20 rfl rfl)
theorem dX8_ask_165 : decode cX8_ask 165 = .ok (.aload_n 0, 1) := dk_42 (dk_at dksX8_ask_6 23 rfl rfl)
theorem dX8_ask_166 : decode cX8_ask 166 = .ok (.getfield 180, 3) := dk_180 0 180 (dk_at dksX8_ask_7 0 rfl rfl)
theorem dX8_ask_169 : decode cX8_ask 169 = .ok (.iload_n 3, 1) := dk_29 (dk_at dksX8_ask_7 3 rfl rfl)
theorem dX8_ask_170 : decode cX8_ask 170 = .ok (.aload_n 0, 1) := dk_42 (dk_at dksX8_ask_7 4 rfl rfl)
theorem dX8_ask_171 : decode cX8_ask 171 = .ok (.getfield 168, 3) := dk_180 0 168 (dk_at dksX8_ask_7 5 rfl rfl)
theorem dX8_ask_174 : decode cX8_ask 174 = .ok (.iload_n 3, 1) := dk_29 (dk_at dksX8_ask_7 8 rfl rfl)
theorem dX8_ask_175 : decode cX8_ask 175 = .ok (.iaload, 1) := dk_46 (dk_at dksX8_ask_7 9 rfl rfl)
theorem dX8_ask_176 : decode cX8_ask 176 = .ok (.iastore, 1) := dk_79 (dk_at dksX8_ask_7 10 rfl rfl)
theorem dX8_ask_177 : decode cX8_ask 177 = .ok (.iinc 3 1, 3) := dk_132 3 1 (dk_at dksX8_ask_7 11 rfl rfl)
theorem dX8_ask_180 : decode cX8_ask 180 = .ok (.goto (-21), 3) := dk_167 255 235 (dk_at dksX8_ask_7 14 rfl rfl)
theorem dX8_ask_183 : decode cX8_ask 183 = .ok (.aload_n 0, 1) := dk_42 (dk_at dksX8_ask_7 17 rfl rfl)
theorem dX8_ask_184 : decode cX8_ask 184 = .ok (.aload_n 0, 1) := dk_42 (dk_at dksX8_ask_7 18 rfl rfl)
theorem dX8_ask_185 : decode cX8_ask 185 = .ok (.invokevirtual 481, 3) := dk_182 1 225 (dk_at dksX8_ask_7 19 rfl rfl)
theorem dX8_ask_188 : decode cX8_ask 188 = .ok (.putfield 183, 3) := dk_181 0 183 (dk_at dksX8_ask_8 0 rfl rfl)
theorem dX8_ask_191 : decode cX8_ask 191 = .ok (.aload_n 0, 1) := dk_42 (dk_at dksX8_ask_8 3 rfl rfl)
theorem dX8_ask_192 : decode cX8_ask 192 = .ok (.getfield 475, 3) := dk_180 1 219 (dk_at dksX8_ask_8 4 rfl rfl)
theorem dX8_ask_195 : decode cX8_ask 195 = .ok (.ireturn, 1) := dk_172 (dk_at dksX8_ask_8 7 rfl rfl)
abbrev cX8_isDrafted : ByteArray := prog_20_method_79_code
def yX8_isDrafted : MethodName := ⟨RX8, "isDrafted", "()Z"⟩
def dkwX8_isDrafted_0 : List UInt8 := [42, 180, 1, 43, 158, 0, 14, 42, 180, 1, 58, 158, 0, 7, 4, 167, 0, 4, 3, 172]
abbrev dktX8_isDrafted_0 : List UInt8 := dkwX8_isDrafted_0 ++ []
theorem dksX8_isDrafted_0 : cX8_isDrafted.data.toList.drop 0 = dktX8_isDrafted_0 := by decide +kernel
theorem dX8_isDrafted_0 : decode cX8_isDrafted 0 = .ok (.aload_n 0, 1) := dk_42 (dk_at dksX8_isDrafted_0 0 rfl rfl)
theorem dX8_isDrafted_1 : decode cX8_isDrafted 1 = .ok (.getfield 299, 3) := dk_180 1 43 (dk_at dksX8_isDrafted_0 1 rfl rfl)
theorem dX8_isDrafted_4 : decode cX8_isDrafted 4 = .ok (.ifCond .le 14, 3) := dk_158 0 14 (dk_at dksX8_isDrafted_0 4 rfl rfl)
theorem dX8_isDrafted_7 : decode cX8_isDrafted 7 = .ok (.aload_n 0, 1) := dk_42 (dk_at dksX8_isDrafted_0 7 rfl rfl)
theorem dX8_isDrafted_8 : decode cX8_isDrafted 8 = .ok (.getfield 314, 3) := dk_180 1 58 (dk_at dksX8_isDrafted_0 8 rfl rfl)
theorem dX8_isDrafted_11 : decode cX8_isDrafted 11 = .ok (.ifCond .le 7, 3) := dk_158 0 7 (dk_at dksX8_isDrafted_0 11 rfl rfl)
theorem dX8_isDrafted_14 : decode cX8_isDrafted 14 = .ok (.iconst 1, 1) := dk_4 (dk_at dksX8_isDrafted_0 14 rfl rfl)
theorem dX8_isDrafted_15 : decode cX8_isDrafted 15 = .ok (.goto 4, 3) := dk_167 0 4 (dk_at dksX8_isDrafted_0 15 rfl rfl)
theorem dX8_isDrafted_18 : decode cX8_isDrafted 18 = .ok (.iconst 0, 1) := dk_3 (dk_at dksX8_isDrafted_0 18 rfl rfl)
theorem dX8_isDrafted_19 : decode cX8_isDrafted 19 = .ok (.ireturn, 1) := dk_172 (dk_at dksX8_isDrafted_0 19 rfl rfl)
abbrev cX8_nextSeat : ByteArray := prog_20_method_65_code
def yX8_nextSeat : MethodName := ⟨RX8, "nextSeat", "()I"⟩
def dkwX8_nextSeat_4 : List UInt8 := [154, 0, 8, 21, 4, 153, 0, 7, 4, 167, 0, 4, 3, 61, 132, 3, 1, 167, 255, 154, 27, 172]
abbrev dktX8_nextSeat_4 : List UInt8 := dkwX8_nextSeat_4 ++ []
def dkwX8_nextSeat_3 : List UInt8 := [162, 0, 7, 4, 167, 0, 4, 3, 54, 5, 21, 5, 153, 0, 7, 29, 167, 0, 4, 27, 60, 28]
abbrev dktX8_nextSeat_3 : List UInt8 := dkwX8_nextSeat_3 ++ dktX8_nextSeat_4
def dkwX8_nextSeat_2 : List UInt8 := [153, 0, 7, 28, 153, 0, 22, 21, 4, 28, 160, 0, 20, 42, 29, 182, 1, 137, 42, 27, 182, 1, 137]
abbrev dktX8_nextSeat_2 : List UInt8 := dkwX8_nextSeat_2 ++ dktX8_nextSeat_3
def dkwX8_nextSeat_1 : List UInt8 := [29, 182, 1, 134, 2, 159, 0, 7, 4, 167, 0, 4, 3, 54, 4, 27, 2, 159, 0, 31, 21, 4]
abbrev dktX8_nextSeat_1 : List UInt8 := dkwX8_nextSeat_1 ++ dktX8_nextSeat_2
def dkwX8_nextSeat_0 : List UInt8 := [2, 60, 3, 61, 3, 62, 29, 42, 180, 1, 43, 162, 0, 100, 42, 180, 0, 138, 29, 51, 154, 0, 85, 42]
abbrev dktX8_nextSeat_0 : List UInt8 := dkwX8_nextSeat_0 ++ dktX8_nextSeat_1
theorem dksX8_nextSeat_0 : cX8_nextSeat.data.toList.drop 0 = dktX8_nextSeat_0 := by decide +kernel
theorem dksX8_nextSeat_1 : cX8_nextSeat.data.toList.drop 24 = dktX8_nextSeat_1 := dk_seg dksX8_nextSeat_0 24 rfl rfl
theorem dksX8_nextSeat_2 : cX8_nextSeat.data.toList.drop 46 = dktX8_nextSeat_2 := dk_seg dksX8_nextSeat_1 22 rfl rfl
theorem dksX8_nextSeat_3 : cX8_nextSeat.data.toList.drop 69 = dktX8_nextSeat_3 := dk_seg dksX8_nextSeat_2 23 rfl rfl
theorem dksX8_nextSeat_4 : cX8_nextSeat.data.toList.drop 91 = dktX8_nextSeat_4 := dk_seg dksX8_nextSeat_3 22 rfl rfl
theorem dX8_nextSeat_0 : decode cX8_nextSeat 0 = .ok (.iconst (-1), 1) := dk_2 (dk_at dksX8_nextSeat_0 0 rfl rfl)
theorem dX8_nextSeat_1 : decode cX8_nextSeat 1 = .ok (.istore_n 1, 1) := dk_60 (dk_at dksX8_nextSeat_0 1 rfl rfl)
theorem dX8_nextSeat_2 : decode cX8_nextSeat 2 = .ok (.iconst 0, 1) := dk_3 (dk_at dksX8_nextSeat_0 2 rfl rfl)
theorem dX8_nextSeat_3 : decode cX8_nextSeat 3 = .ok (.istore_n 2, 1) := dk_61 (dk_at dksX8_nextSeat_0 3 rfl rfl)
theorem dX8_nextSeat_4 : decode cX8_nextSeat 4 = .ok (.iconst 0, 1) := dk_3 (dk_at dksX8_nextSeat_0 4 rfl rfl)
theorem dX8_nextSeat_5 : decode cX8_nextSeat 5 = .ok (.istore_n 3, 1) := dk_62 (dk_at dksX8_nextSeat_0 5 rfl rfl)
theorem dX8_nextSeat_6 : decode cX8_nextSeat 6 = .ok (.iload_n 3, 1) := dk_29 (dk_at dksX8_nextSeat_0 6 rfl rfl)
theorem dX8_nextSeat_7 : decode cX8_nextSeat 7 = .ok (.aload_n 0, 1) := dk_42 (dk_at dksX8_nextSeat_0 7 rfl rfl)
theorem dX8_nextSeat_8 : decode cX8_nextSeat 8 = .ok (.getfield 299, 3) := dk_180 1 43 (dk_at dksX8_nextSeat_0 8 rfl rfl)
theorem dX8_nextSeat_11 : decode cX8_nextSeat 11 = .ok (.if_icmp .ge 100, 3) := dk_162 0 100 (dk_at dksX8_nextSeat_0 11 rfl rfl)
theorem dX8_nextSeat_14 : decode cX8_nextSeat 14 = .ok (.aload_n 0, 1) := dk_42 (dk_at dksX8_nextSeat_0 14 rfl rfl)
theorem dX8_nextSeat_15 : decode cX8_nextSeat 15 = .ok (.getfield 138, 3) := dk_180 0 138 (dk_at dksX8_nextSeat_0 15 rfl rfl)
theorem dX8_nextSeat_18 : decode cX8_nextSeat 18 = .ok (.iload_n 3, 1) := dk_29 (dk_at dksX8_nextSeat_0 18 rfl rfl)
theorem dX8_nextSeat_19 : decode cX8_nextSeat 19 = .ok (.baload, 1) := dk_51 (dk_at dksX8_nextSeat_0 19 rfl rfl)
theorem dX8_nextSeat_20 : decode cX8_nextSeat 20 = .ok (.ifCond .ne 85, 3) := dk_154 0 85 (dk_at dksX8_nextSeat_0 20 rfl rfl)
theorem dX8_nextSeat_23 : decode cX8_nextSeat 23 = .ok (.aload_n 0, 1) := dk_42 (dk_at dksX8_nextSeat_0 23 rfl rfl)
theorem dX8_nextSeat_24 : decode cX8_nextSeat 24 = .ok (.iload_n 3, 1) := dk_29 (dk_at dksX8_nextSeat_1 0 rfl rfl)
theorem dX8_nextSeat_25 : decode cX8_nextSeat 25 = .ok (.invokevirtual 390, 3) := dk_182 1 134 (dk_at dksX8_nextSeat_1 1 rfl rfl)
theorem dX8_nextSeat_28 : decode cX8_nextSeat 28 = .ok (.iconst (-1), 1) := dk_2 (dk_at dksX8_nextSeat_1 4 rfl rfl)
theorem dX8_nextSeat_29 : decode cX8_nextSeat 29 = .ok (.if_icmp .eq 7, 3) := dk_159 0 7 (dk_at dksX8_nextSeat_1 5 rfl rfl)
theorem dX8_nextSeat_32 : decode cX8_nextSeat 32 = .ok (.iconst 1, 1) := dk_4 (dk_at dksX8_nextSeat_1 8 rfl rfl)
theorem dX8_nextSeat_33 : decode cX8_nextSeat 33 = .ok (.goto 4, 3) := dk_167 0 4 (dk_at dksX8_nextSeat_1 9 rfl rfl)
theorem dX8_nextSeat_36 : decode cX8_nextSeat 36 = .ok (.iconst 0, 1) := dk_3 (dk_at dksX8_nextSeat_1 12 rfl rfl)
theorem dX8_nextSeat_37 : decode cX8_nextSeat 37 = .ok (.istore 4, 2) := dk_54 4 (dk_at dksX8_nextSeat_1 13 rfl rfl)
theorem dX8_nextSeat_39 : decode cX8_nextSeat 39 = .ok (.iload_n 1, 1) := dk_27 (dk_at dksX8_nextSeat_1 15 rfl rfl)
theorem dX8_nextSeat_40 : decode cX8_nextSeat 40 = .ok (.iconst (-1), 1) := dk_2 (dk_at dksX8_nextSeat_1 16 rfl rfl)
theorem dX8_nextSeat_41 : decode cX8_nextSeat 41 = .ok (.if_icmp .eq 31, 3) := dk_159 0 31 (dk_at dksX8_nextSeat_1 17 rfl rfl)
theorem dX8_nextSeat_44 : decode cX8_nextSeat 44 = .ok (.iload 4, 2) := dk_21 4 (dk_at dksX8_nextSeat_1 20 rfl rfl)
theorem dX8_nextSeat_46 : decode cX8_nextSeat 46 = .ok (.ifCond .eq 7, 3) := dk_153 0 7 (dk_at dksX8_nextSeat_2 0 rfl rfl)
theorem dX8_nextSeat_49 : decode cX8_nextSeat 49 = .ok (.iload_n 2, 1) := dk_28 (dk_at dksX8_nextSeat_2 3 rfl rfl)
theorem dX8_nextSeat_50 : decode cX8_nextSeat 50 = .ok (.ifCond .eq 22, 3) := dk_153 0 22 (dk_at dksX8_nextSeat_2 4 rfl rfl)
theorem dX8_nextSeat_53 : decode cX8_nextSeat 53 = .ok (.iload 4, 2) := dk_21 4 (dk_at dksX8_nextSeat_2 7 rfl rfl)
theorem dX8_nextSeat_55 : decode cX8_nextSeat 55 = .ok (.iload_n 2, 1) := dk_28 (dk_at dksX8_nextSeat_2 9 rfl rfl)
theorem dX8_nextSeat_56 : decode cX8_nextSeat 56 = .ok (.if_icmp .ne 20, 3) := dk_160 0 20 (dk_at dksX8_nextSeat_2 10 rfl rfl)
theorem dX8_nextSeat_59 : decode cX8_nextSeat 59 = .ok (.aload_n 0, 1) := dk_42 (dk_at dksX8_nextSeat_2 13 rfl rfl)
theorem dX8_nextSeat_60 : decode cX8_nextSeat 60 = .ok (.iload_n 3, 1) := dk_29 (dk_at dksX8_nextSeat_2 14 rfl rfl)
theorem dX8_nextSeat_61 : decode cX8_nextSeat 61 = .ok (.invokevirtual 393, 3) := dk_182 1 137 (dk_at dksX8_nextSeat_2 15 rfl rfl)
theorem dX8_nextSeat_64 : decode cX8_nextSeat 64 = .ok (.aload_n 0, 1) := dk_42 (dk_at dksX8_nextSeat_2 18 rfl rfl)
theorem dX8_nextSeat_65 : decode cX8_nextSeat 65 = .ok (.iload_n 1, 1) := dk_27 (dk_at dksX8_nextSeat_2 19 rfl rfl)
theorem dX8_nextSeat_66 : decode cX8_nextSeat 66 = .ok (.invokevirtual 393, 3) := dk_182 1 137 (dk_at dksX8_nextSeat_2 20 rfl rfl)
theorem dX8_nextSeat_69 : decode cX8_nextSeat 69 = .ok (.if_icmp .ge 7, 3) := dk_162 0 7 (dk_at dksX8_nextSeat_3 0 rfl rfl)
theorem dX8_nextSeat_72 : decode cX8_nextSeat 72 = .ok (.iconst 1, 1) := dk_4 (dk_at dksX8_nextSeat_3 3 rfl rfl)
theorem dX8_nextSeat_73 : decode cX8_nextSeat 73 = .ok (.goto 4, 3) := dk_167 0 4 (dk_at dksX8_nextSeat_3 4 rfl rfl)
theorem dX8_nextSeat_76 : decode cX8_nextSeat 76 = .ok (.iconst 0, 1) := dk_3 (dk_at dksX8_nextSeat_3 7 rfl rfl)
theorem dX8_nextSeat_77 : decode cX8_nextSeat 77 = .ok (.istore 5, 2) := dk_54 5 (dk_at dksX8_nextSeat_3 8 rfl rfl)
theorem dX8_nextSeat_79 : decode cX8_nextSeat 79 = .ok (.iload 5, 2) := dk_21 5 (dk_at dksX8_nextSeat_3 10 rfl rfl)
theorem dX8_nextSeat_81 : decode cX8_nextSeat 81 = .ok (.ifCond .eq 7, 3) := dk_153 0 7 (dk_at dksX8_nextSeat_3 12 rfl rfl)
theorem dX8_nextSeat_84 : decode cX8_nextSeat 84 = .ok (.iload_n 3, 1) := dk_29 (dk_at dksX8_nextSeat_3 15 rfl rfl)
theorem dX8_nextSeat_85 : decode cX8_nextSeat 85 = .ok (.goto 4, 3) := dk_167 0 4 (dk_at dksX8_nextSeat_3 16 rfl rfl)
theorem dX8_nextSeat_88 : decode cX8_nextSeat 88 = .ok (.iload_n 1, 1) := dk_27 (dk_at dksX8_nextSeat_3 19 rfl rfl)
theorem dX8_nextSeat_89 : decode cX8_nextSeat 89 = .ok (.istore_n 1, 1) := dk_60 (dk_at dksX8_nextSeat_3 20 rfl rfl)
theorem dX8_nextSeat_90 : decode cX8_nextSeat 90 = .ok (.iload_n 2, 1) := dk_28 (dk_at dksX8_nextSeat_3 21 rfl rfl)
theorem dX8_nextSeat_91 : decode cX8_nextSeat 91 = .ok (.ifCond .ne 8, 3) := dk_154 0 8 (dk_at dksX8_nextSeat_4 0 rfl rfl)
theorem dX8_nextSeat_94 : decode cX8_nextSeat 94 = .ok (.iload 4, 2) := dk_21 4 (dk_at dksX8_nextSeat_4 3 rfl rfl)
theorem dX8_nextSeat_96 : decode cX8_nextSeat 96 = .ok (.ifCond .eq 7, 3) := dk_153 0 7 (dk_at dksX8_nextSeat_4 5 rfl rfl)
theorem dX8_nextSeat_99 : decode cX8_nextSeat 99 = .ok (.iconst 1, 1) := dk_4 (dk_at dksX8_nextSeat_4 8 rfl rfl)
theorem dX8_nextSeat_100 : decode cX8_nextSeat 100 = .ok (.goto 4, 3) := dk_167 0 4 (dk_at dksX8_nextSeat_4 9 rfl rfl)
theorem dX8_nextSeat_103 : decode cX8_nextSeat 103 = .ok (.iconst 0, 1) := dk_3 (dk_at dksX8_nextSeat_4 12 rfl rfl)
theorem dX8_nextSeat_104 : decode cX8_nextSeat 104 = .ok (.istore_n 2, 1) := dk_61 (dk_at dksX8_nextSeat_4 13 rfl rfl)
theorem dX8_nextSeat_105 : decode cX8_nextSeat 105 = .ok (.iinc 3 1, 3) := dk_132 3 1 (dk_at dksX8_nextSeat_4 14 rfl rfl)
theorem dX8_nextSeat_108 : decode cX8_nextSeat 108 = .ok (.goto (-102), 3) := dk_167 255 154 (dk_at dksX8_nextSeat_4 17 rfl rfl)
theorem dX8_nextSeat_111 : decode cX8_nextSeat 111 = .ok (.iload_n 1, 1) := dk_27 (dk_at dksX8_nextSeat_4 20 rfl rfl)
theorem dX8_nextSeat_112 : decode cX8_nextSeat 112 = .ok (.ireturn, 1) := dk_172 (dk_at dksX8_nextSeat_4 21 rfl rfl)
abbrev cX8_linkOf : ByteArray := prog_20_method_64_code
def yX8_linkOf : MethodName := ⟨RX8, "linkOf", "(I)I"⟩
def dkwX8_linkOf_3 : List UInt8 := [153, 0, 7, 29, 167, 0, 4, 28, 61, 132, 3, 255, 167, 255, 183, 28, 172]
abbrev dktX8_linkOf_3 : List UInt8 := dkwX8_linkOf_3 ++ []
def dkwX8_linkOf_2 : List UInt8 := [180, 0, 138, 42, 180, 0, 68, 29, 46, 51, 153, 0, 7, 4, 167, 0, 4, 3, 54, 4, 21, 4]
abbrev dktX8_linkOf_2 : List UInt8 := dkwX8_linkOf_2 ++ dktX8_linkOf_3
def dkwX8_linkOf_1 : List UInt8 := [180, 0, 138, 42, 180, 0, 74, 29, 46, 51, 154, 0, 27, 42, 180, 0, 74, 29, 46, 27, 160, 0, 21, 42]
abbrev dktX8_linkOf_1 : List UInt8 := dkwX8_linkOf_1 ++ dktX8_linkOf_2
def dkwX8_linkOf_0 : List UInt8 := [2, 61, 42, 180, 1, 52, 4, 100, 62, 29, 155, 0, 75, 42, 180, 0, 68, 29, 46, 27, 160, 0, 17, 42]
abbrev dktX8_linkOf_0 : List UInt8 := dkwX8_linkOf_0 ++ dktX8_linkOf_1
theorem dksX8_linkOf_0 : cX8_linkOf.data.toList.drop 0 = dktX8_linkOf_0 := by decide +kernel
theorem dksX8_linkOf_1 : cX8_linkOf.data.toList.drop 24 = dktX8_linkOf_1 := dk_seg dksX8_linkOf_0 24 rfl rfl
theorem dksX8_linkOf_2 : cX8_linkOf.data.toList.drop 48 = dktX8_linkOf_2 := dk_seg dksX8_linkOf_1 24 rfl rfl
theorem dksX8_linkOf_3 : cX8_linkOf.data.toList.drop 70 = dktX8_linkOf_3 := dk_seg dksX8_linkOf_2 22 rfl rfl
theorem dX8_linkOf_0 : decode cX8_linkOf 0 = .ok (.iconst (-1), 1) := dk_2 (dk_at dksX8_linkOf_0 0 rfl rfl)
theorem dX8_linkOf_1 : decode cX8_linkOf 1 = .ok (.istore_n 2, 1) := dk_61 (dk_at dksX8_linkOf_0 1 rfl rfl)
theorem dX8_linkOf_2 : decode cX8_linkOf 2 = .ok (.aload_n 0, 1) := dk_42 (dk_at dksX8_linkOf_0 2 rfl rfl)
theorem dX8_linkOf_3 : decode cX8_linkOf 3 = .ok (.getfield 308, 3) := dk_180 1 52 (dk_at dksX8_linkOf_0 3 rfl rfl)
theorem dX8_linkOf_6 : decode cX8_linkOf 6 = .ok (.iconst 1, 1) := dk_4 (dk_at dksX8_linkOf_0 6 rfl rfl)
theorem dX8_linkOf_7 : decode cX8_linkOf 7 = .ok (.isub, 1) := dk_100 (dk_at dksX8_linkOf_0 7 rfl rfl)
theorem dX8_linkOf_8 : decode cX8_linkOf 8 = .ok (.istore_n 3, 1) := dk_62 (dk_at dksX8_linkOf_0 8 rfl rfl)
theorem dX8_linkOf_9 : decode cX8_linkOf 9 = .ok (.iload_n 3, 1) := dk_29 (dk_at dksX8_linkOf_0 9 rfl rfl)
theorem dX8_linkOf_10 : decode cX8_linkOf 10 = .ok (.ifCond .lt 75, 3) := dk_155 0 75 (dk_at dksX8_linkOf_0 10 rfl rfl)
theorem dX8_linkOf_13 : decode cX8_linkOf 13 = .ok (.aload_n 0, 1) := dk_42 (dk_at dksX8_linkOf_0 13 rfl rfl)
theorem dX8_linkOf_14 : decode cX8_linkOf 14 = .ok (.getfield 68, 3) := dk_180 0 68 (dk_at dksX8_linkOf_0 14 rfl rfl)
theorem dX8_linkOf_17 : decode cX8_linkOf 17 = .ok (.iload_n 3, 1) := dk_29 (dk_at dksX8_linkOf_0 17 rfl rfl)
theorem dX8_linkOf_18 : decode cX8_linkOf 18 = .ok (.iaload, 1) := dk_46 (dk_at dksX8_linkOf_0 18 rfl rfl)
theorem dX8_linkOf_19 : decode cX8_linkOf 19 = .ok (.iload_n 1, 1) := dk_27 (dk_at dksX8_linkOf_0 19 rfl rfl)
theorem dX8_linkOf_20 : decode cX8_linkOf 20 = .ok (.if_icmp .ne 17, 3) := dk_160 0 17 (dk_at dksX8_linkOf_0 20 rfl rfl)
theorem dX8_linkOf_23 : decode cX8_linkOf 23 = .ok (.aload_n 0, 1) := dk_42 (dk_at dksX8_linkOf_0 23 rfl rfl)
theorem dX8_linkOf_24 : decode cX8_linkOf 24 = .ok (.getfield 138, 3) := dk_180 0 138 (dk_at dksX8_linkOf_1 0 rfl rfl)
theorem dX8_linkOf_27 : decode cX8_linkOf 27 = .ok (.aload_n 0, 1) := dk_42 (dk_at dksX8_linkOf_1 3 rfl rfl)
theorem dX8_linkOf_28 : decode cX8_linkOf 28 = .ok (.getfield 74, 3) := dk_180 0 74 (dk_at dksX8_linkOf_1 4 rfl rfl)
theorem dX8_linkOf_31 : decode cX8_linkOf 31 = .ok (.iload_n 3, 1) := dk_29 (dk_at dksX8_linkOf_1 7 rfl rfl)
theorem dX8_linkOf_32 : decode cX8_linkOf 32 = .ok (.iaload, 1) := dk_46 (dk_at dksX8_linkOf_1 8 rfl rfl)
theorem dX8_linkOf_33 : decode cX8_linkOf 33 = .ok (.baload, 1) := dk_51 (dk_at dksX8_linkOf_1 9 rfl rfl)
theorem dX8_linkOf_34 : decode cX8_linkOf 34 = .ok (.ifCond .ne 27, 3) := dk_154 0 27 (dk_at dksX8_linkOf_1 10 rfl rfl)
theorem dX8_linkOf_37 : decode cX8_linkOf 37 = .ok (.aload_n 0, 1) := dk_42 (dk_at dksX8_linkOf_1 13 rfl rfl)
theorem dX8_linkOf_38 : decode cX8_linkOf 38 = .ok (.getfield 74, 3) := dk_180 0 74 (dk_at dksX8_linkOf_1 14 rfl rfl)
theorem dX8_linkOf_41 : decode cX8_linkOf 41 = .ok (.iload_n 3, 1) := dk_29 (dk_at dksX8_linkOf_1 17 rfl rfl)
theorem dX8_linkOf_42 : decode cX8_linkOf 42 = .ok (.iaload, 1) := dk_46 (dk_at dksX8_linkOf_1 18 rfl rfl)
theorem dX8_linkOf_43 : decode cX8_linkOf 43 = .ok (.iload_n 1, 1) := dk_27 (dk_at dksX8_linkOf_1 19 rfl rfl)
theorem dX8_linkOf_44 : decode cX8_linkOf 44 = .ok (.if_icmp .ne 21, 3) := dk_160 0 21 (dk_at dksX8_linkOf_1 20 rfl rfl)
theorem dX8_linkOf_47 : decode cX8_linkOf 47 = .ok (.aload_n 0, 1) := dk_42 (dk_at dksX8_linkOf_1 23 rfl rfl)
theorem dX8_linkOf_48 : decode cX8_linkOf 48 = .ok (.getfield 138, 3) := dk_180 0 138 (dk_at dksX8_linkOf_2 0 rfl rfl)
theorem dX8_linkOf_51 : decode cX8_linkOf 51 = .ok (.aload_n 0, 1) := dk_42 (dk_at dksX8_linkOf_2 3 rfl rfl)
theorem dX8_linkOf_52 : decode cX8_linkOf 52 = .ok (.getfield 68, 3) := dk_180 0 68 (dk_at dksX8_linkOf_2 4 rfl rfl)
theorem dX8_linkOf_55 : decode cX8_linkOf 55 = .ok (.iload_n 3, 1) := dk_29 (dk_at dksX8_linkOf_2 7 rfl rfl)
theorem dX8_linkOf_56 : decode cX8_linkOf 56 = .ok (.iaload, 1) := dk_46 (dk_at dksX8_linkOf_2 8 rfl rfl)
theorem dX8_linkOf_57 : decode cX8_linkOf 57 = .ok (.baload, 1) := dk_51 (dk_at dksX8_linkOf_2 9 rfl rfl)
theorem dX8_linkOf_58 : decode cX8_linkOf 58 = .ok (.ifCond .eq 7, 3) := dk_153 0 7 (dk_at dksX8_linkOf_2 10 rfl rfl)
theorem dX8_linkOf_61 : decode cX8_linkOf 61 = .ok (.iconst 1, 1) := dk_4 (dk_at dksX8_linkOf_2 13 rfl rfl)
theorem dX8_linkOf_62 : decode cX8_linkOf 62 = .ok (.goto 4, 3) := dk_167 0 4 (dk_at dksX8_linkOf_2 14 rfl rfl)
theorem dX8_linkOf_65 : decode cX8_linkOf 65 = .ok (.iconst 0, 1) := dk_3 (dk_at dksX8_linkOf_2 17 rfl rfl)
theorem dX8_linkOf_66 : decode cX8_linkOf 66 = .ok (.istore 4, 2) := dk_54 4 (dk_at dksX8_linkOf_2 18 rfl rfl)
theorem dX8_linkOf_68 : decode cX8_linkOf 68 = .ok (.iload 4, 2) := dk_21 4 (dk_at dksX8_linkOf_2 20 rfl rfl)
theorem dX8_linkOf_70 : decode cX8_linkOf 70 = .ok (.ifCond .eq 7, 3) := dk_153 0 7 (dk_at dksX8_linkOf_3 0 rfl rfl)
theorem dX8_linkOf_73 : decode cX8_linkOf 73 = .ok (.iload_n 3, 1) := dk_29 (dk_at dksX8_linkOf_3 3 rfl rfl)
theorem dX8_linkOf_74 : decode cX8_linkOf 74 = .ok (.goto 4, 3) := dk_167 0 4 (dk_at dksX8_linkOf_3 4 rfl rfl)
theorem dX8_linkOf_77 : decode cX8_linkOf 77 = .ok (.iload_n 2, 1) := dk_28 (dk_at dksX8_linkOf_3 7 rfl rfl)
theorem dX8_linkOf_78 : decode cX8_linkOf 78 = .ok (.istore_n 2, 1) := dk_61 (dk_at dksX8_linkOf_3 8 rfl rfl)
theorem dX8_linkOf_79 : decode cX8_linkOf 79 = .ok (.iinc 3 (-1), 3) := dk_132 3 255 (dk_at dksX8_linkOf_3 9 rfl rfl)
theorem dX8_linkOf_82 : decode cX8_linkOf 82 = .ok (.goto (-73), 3) := dk_167 255 183 (dk_at dksX8_linkOf_3 12 rfl rfl)
theorem dX8_linkOf_85 : decode cX8_linkOf 85 = .ok (.iload_n 2, 1) := dk_28 (dk_at dksX8_linkOf_3 15 rfl rfl)
theorem dX8_linkOf_86 : decode cX8_linkOf 86 = .ok (.ireturn, 1) := dk_172 (dk_at dksX8_linkOf_3 16 rfl rfl)
abbrev cX8_guess : ByteArray := prog_20_method_63_code
def yX8_guess : MethodName := ⟨RX8, "guess", "(I)I"⟩
def dkwX8_guess_1 : List UInt8 := [108, 61, 132, 3, 255, 167, 255, 245, 28, 4, 162, 0, 7, 4, 167, 0, 4, 28, 172]
abbrev dktX8_guess_1 : List UInt8 := dkwX8_guess_1 ++ []
def dkwX8_guess_0 : List UInt8 := [42, 180, 0, 62, 42, 180, 0, 65, 27, 46, 46, 61, 42, 27, 182, 1, 121, 62, 29, 158, 0, 13, 28, 5]
abbrev dktX8_guess_0 : List UInt8 := dkwX8_guess_0 ++ dktX8_guess_1
theorem dksX8_guess_0 : cX8_guess.data.toList.drop 0 = dktX8_guess_0 := by decide +kernel
theorem dksX8_guess_1 : cX8_guess.data.toList.drop 24 = dktX8_guess_1 := dk_seg dksX8_guess_0 24 rfl rfl
theorem dX8_guess_0 : decode cX8_guess 0 = .ok (.aload_n 0, 1) := dk_42 (dk_at dksX8_guess_0 0 rfl rfl)
theorem dX8_guess_1 : decode cX8_guess 1 = .ok (.getfield 62, 3) := dk_180 0 62 (dk_at dksX8_guess_0 1 rfl rfl)
theorem dX8_guess_4 : decode cX8_guess 4 = .ok (.aload_n 0, 1) := dk_42 (dk_at dksX8_guess_0 4 rfl rfl)
theorem dX8_guess_5 : decode cX8_guess 5 = .ok (.getfield 65, 3) := dk_180 0 65 (dk_at dksX8_guess_0 5 rfl rfl)
theorem dX8_guess_8 : decode cX8_guess 8 = .ok (.iload_n 1, 1) := dk_27 (dk_at dksX8_guess_0 8 rfl rfl)
theorem dX8_guess_9 : decode cX8_guess 9 = .ok (.iaload, 1) := dk_46 (dk_at dksX8_guess_0 9 rfl rfl)
theorem dX8_guess_10 : decode cX8_guess 10 = .ok (.iaload, 1) := dk_46 (dk_at dksX8_guess_0 10 rfl rfl)
theorem dX8_guess_11 : decode cX8_guess 11 = .ok (.istore_n 2, 1) := dk_61 (dk_at dksX8_guess_0 11 rfl rfl)
theorem dX8_guess_12 : decode cX8_guess 12 = .ok (.aload_n 0, 1) := dk_42 (dk_at dksX8_guess_0 12 rfl rfl)
theorem dX8_guess_13 : decode cX8_guess 13 = .ok (.iload_n 1, 1) := dk_27 (dk_at dksX8_guess_0 13 rfl rfl)
theorem dX8_guess_14 : decode cX8_guess 14 = .ok (.invokevirtual 377, 3) := dk_182 1 121 (dk_at dksX8_guess_0 14 rfl rfl)
theorem dX8_guess_17 : decode cX8_guess 17 = .ok (.istore_n 3, 1) := dk_62 (dk_at dksX8_guess_0 17 rfl rfl)
theorem dX8_guess_18 : decode cX8_guess 18 = .ok (.iload_n 3, 1) := dk_29 (dk_at dksX8_guess_0 18 rfl rfl)
theorem dX8_guess_19 : decode cX8_guess 19 = .ok (.ifCond .le 13, 3) := dk_158 0 13 (dk_at dksX8_guess_0 19 rfl rfl)
theorem dX8_guess_22 : decode cX8_guess 22 = .ok (.iload_n 2, 1) := dk_28 (dk_at dksX8_guess_0 22 rfl rfl)
theorem dX8_guess_23 : decode cX8_guess 23 = .ok (.iconst 2, 1) := dk_5 (dk_at dksX8_guess_0 23 rfl rfl)
theorem dX8_guess_24 : decode cX8_guess 24 = .ok (.idiv, 1) := dk_108 (dk_at dksX8_guess_1 0 rfl rfl)
theorem dX8_guess_25 : decode cX8_guess 25 = .ok (.istore_n 2, 1) := dk_61 (dk_at dksX8_guess_1 1 rfl rfl)
theorem dX8_guess_26 : decode cX8_guess 26 = .ok (.iinc 3 (-1), 3) := dk_132 3 255 (dk_at dksX8_guess_1 2 rfl rfl)
theorem dX8_guess_29 : decode cX8_guess 29 = .ok (.goto (-11), 3) := dk_167 255 245 (dk_at dksX8_guess_1 5 rfl rfl)
theorem dX8_guess_32 : decode cX8_guess 32 = .ok (.iload_n 2, 1) := dk_28 (dk_at dksX8_guess_1 8 rfl rfl)
theorem dX8_guess_33 : decode cX8_guess 33 = .ok (.iconst 1, 1) := dk_4 (dk_at dksX8_guess_1 9 rfl rfl)
theorem dX8_guess_34 : decode cX8_guess 34 = .ok (.if_icmp .ge 7, 3) := dk_162 0 7 (dk_at dksX8_guess_1 10 rfl rfl)
theorem dX8_guess_37 : decode cX8_guess 37 = .ok (.iconst 1, 1) := dk_4 (dk_at dksX8_guess_1 13 rfl rfl)
theorem dX8_guess_38 : decode cX8_guess 38 = .ok (.goto 4, 3) := dk_167 0 4 (dk_at dksX8_guess_1 14 rfl rfl)
theorem dX8_guess_41 : decode cX8_guess 41 = .ok (.iload_n 2, 1) := dk_28 (dk_at dksX8_guess_1 17 rfl rfl)
theorem dX8_guess_42 : decode cX8_guess 42 = .ok (.ireturn, 1) := dk_172 (dk_at dksX8_guess_1 18 rfl rfl)
abbrev cX8_manySent : ByteArray := prog_20_method_48_code
def yX8_manySent : MethodName := ⟨RX8, "manySent", "(I)I"⟩
def dkwX8_manySent_1 : List UInt8 := [167, 0, 4, 3, 96, 61, 132, 3, 1, 167, 255, 228, 28, 172]
abbrev dktX8_manySent_1 : List UInt8 := dkwX8_manySent_1 ++ []
def dkwX8_manySent_0 : List UInt8 := [3, 61, 3, 62, 29, 42, 180, 1, 55, 162, 0, 26, 28, 42, 29, 27, 182, 1, 68, 153, 0, 7, 4]
abbrev dktX8_manySent_0 : List UInt8 := dkwX8_manySent_0 ++ dktX8_manySent_1
theorem dksX8_manySent_0 : cX8_manySent.data.toList.drop 0 = dktX8_manySent_0 := by decide +kernel
theorem dksX8_manySent_1 : cX8_manySent.data.toList.drop 23 = dktX8_manySent_1 := dk_seg dksX8_manySent_0 23 rfl rfl
theorem dX8_manySent_0 : decode cX8_manySent 0 = .ok (.iconst 0, 1) := dk_3 (dk_at dksX8_manySent_0 0 rfl rfl)
theorem dX8_manySent_1 : decode cX8_manySent 1 = .ok (.istore_n 2, 1) := dk_61 (dk_at dksX8_manySent_0 1 rfl rfl)
theorem dX8_manySent_2 : decode cX8_manySent 2 = .ok (.iconst 0, 1) := dk_3 (dk_at dksX8_manySent_0 2 rfl rfl)
theorem dX8_manySent_3 : decode cX8_manySent 3 = .ok (.istore_n 3, 1) := dk_62 (dk_at dksX8_manySent_0 3 rfl rfl)
theorem dX8_manySent_4 : decode cX8_manySent 4 = .ok (.iload_n 3, 1) := dk_29 (dk_at dksX8_manySent_0 4 rfl rfl)
theorem dX8_manySent_5 : decode cX8_manySent 5 = .ok (.aload_n 0, 1) := dk_42 (dk_at dksX8_manySent_0 5 rfl rfl)
theorem dX8_manySent_6 : decode cX8_manySent 6 = .ok (.getfield 311, 3) := dk_180 1 55 (dk_at dksX8_manySent_0 6 rfl rfl)
theorem dX8_manySent_9 : decode cX8_manySent 9 = .ok (.if_icmp .ge 26, 3) := dk_162 0 26 (dk_at dksX8_manySent_0 9 rfl rfl)
theorem dX8_manySent_12 : decode cX8_manySent 12 = .ok (.iload_n 2, 1) := dk_28 (dk_at dksX8_manySent_0 12 rfl rfl)
theorem dX8_manySent_13 : decode cX8_manySent 13 = .ok (.aload_n 0, 1) := dk_42 (dk_at dksX8_manySent_0 13 rfl rfl)
theorem dX8_manySent_14 : decode cX8_manySent 14 = .ok (.iload_n 3, 1) := dk_29 (dk_at dksX8_manySent_0 14 rfl rfl)
theorem dX8_manySent_15 : decode cX8_manySent 15 = .ok (.iload_n 1, 1) := dk_27 (dk_at dksX8_manySent_0 15 rfl rfl)
theorem dX8_manySent_16 : decode cX8_manySent 16 = .ok (.invokevirtual 324, 3) := dk_182 1 68 (dk_at dksX8_manySent_0 16 rfl rfl)
theorem dX8_manySent_19 : decode cX8_manySent 19 = .ok (.ifCond .eq 7, 3) := dk_153 0 7 (dk_at dksX8_manySent_0 19 rfl rfl)
theorem dX8_manySent_22 : decode cX8_manySent 22 = .ok (.iconst 1, 1) := dk_4 (dk_at dksX8_manySent_0 22 rfl rfl)
theorem dX8_manySent_23 : decode cX8_manySent 23 = .ok (.goto 4, 3) := dk_167 0 4 (dk_at dksX8_manySent_1 0 rfl rfl)
theorem dX8_manySent_26 : decode cX8_manySent 26 = .ok (.iconst 0, 1) := dk_3 (dk_at dksX8_manySent_1 3 rfl rfl)
theorem dX8_manySent_27 : decode cX8_manySent 27 = .ok (.iadd, 1) := dk_96 (dk_at dksX8_manySent_1 4 rfl rfl)
theorem dX8_manySent_28 : decode cX8_manySent 28 = .ok (.istore_n 2, 1) := dk_61 (dk_at dksX8_manySent_1 5 rfl rfl)
theorem dX8_manySent_29 : decode cX8_manySent 29 = .ok (.iinc 3 1, 3) := dk_132 3 1 (dk_at dksX8_manySent_1 6 rfl rfl)
theorem dX8_manySent_32 : decode cX8_manySent 32 = .ok (.goto (-28), 3) := dk_167 255 228 (dk_at dksX8_manySent_1 9 rfl rfl)
theorem dX8_manySent_35 : decode cX8_manySent 35 = .ok (.iload_n 2, 1) := dk_28 (dk_at dksX8_manySent_1 12 rfl rfl)
theorem dX8_manySent_36 : decode cX8_manySent 36 = .ok (.ireturn, 1) := dk_172 (dk_at dksX8_manySent_1 13 rfl rfl)
abbrev cX8_isSent : ByteArray := prog_20_method_47_code
def yX8_isSent : MethodName := ⟨RX8, "isSent", "(II)Z"⟩
def dkwX8_isSent_1 : List UInt8 := [46, 42, 180, 0, 86, 27, 46, 184, 1, 65, 153, 0, 7, 4, 167, 0, 4, 3, 172]
abbrev dktX8_isSent_1 : List UInt8 := dkwX8_isSent_1 ++ []
def dkwX8_isSent_0 : List UInt8 := [42, 180, 0, 80, 27, 46, 28, 160, 0, 34, 42, 180, 0, 65, 28, 46, 184, 0, 220, 42, 180, 0, 83, 27]
abbrev dktX8_isSent_0 : List UInt8 := dkwX8_isSent_0 ++ dktX8_isSent_1
theorem dksX8_isSent_0 : cX8_isSent.data.toList.drop 0 = dktX8_isSent_0 := by decide +kernel
theorem dksX8_isSent_1 : cX8_isSent.data.toList.drop 24 = dktX8_isSent_1 := dk_seg dksX8_isSent_0 24 rfl rfl
theorem dX8_isSent_0 : decode cX8_isSent 0 = .ok (.aload_n 0, 1) := dk_42 (dk_at dksX8_isSent_0 0 rfl rfl)
theorem dX8_isSent_1 : decode cX8_isSent 1 = .ok (.getfield 80, 3) := dk_180 0 80 (dk_at dksX8_isSent_0 1 rfl rfl)
theorem dX8_isSent_4 : decode cX8_isSent 4 = .ok (.iload_n 1, 1) := dk_27 (dk_at dksX8_isSent_0 4 rfl rfl)
theorem dX8_isSent_5 : decode cX8_isSent 5 = .ok (.iaload, 1) := dk_46 (dk_at dksX8_isSent_0 5 rfl rfl)
theorem dX8_isSent_6 : decode cX8_isSent 6 = .ok (.iload_n 2, 1) := dk_28 (dk_at dksX8_isSent_0 6 rfl rfl)
theorem dX8_isSent_7 : decode cX8_isSent 7 = .ok (.if_icmp .ne 34, 3) := dk_160 0 34 (dk_at dksX8_isSent_0 7 rfl rfl)
theorem dX8_isSent_10 : decode cX8_isSent 10 = .ok (.aload_n 0, 1) := dk_42 (dk_at dksX8_isSent_0 10 rfl rfl)
theorem dX8_isSent_11 : decode cX8_isSent 11 = .ok (.getfield 65, 3) := dk_180 0 65 (dk_at dksX8_isSent_0 11 rfl rfl)
theorem dX8_isSent_14 : decode cX8_isSent 14 = .ok (.iload_n 2, 1) := dk_28 (dk_at dksX8_isSent_0 14 rfl rfl)
theorem dX8_isSent_15 : decode cX8_isSent 15 = .ok (.iaload, 1) := dk_46 (dk_at dksX8_isSent_0 15 rfl rfl)
theorem dX8_isSent_16 : decode cX8_isSent 16 = .ok (.invokestatic 220, 3) := dk_184 0 220 (dk_at dksX8_isSent_0 16 rfl rfl)
theorem dX8_isSent_19 : decode cX8_isSent 19 = .ok (.aload_n 0, 1) := dk_42 (dk_at dksX8_isSent_0 19 rfl rfl)
theorem dX8_isSent_20 : decode cX8_isSent 20 = .ok (.getfield 83, 3) := dk_180 0 83 (dk_at dksX8_isSent_0 20 rfl rfl)
theorem dX8_isSent_23 : decode cX8_isSent 23 = .ok (.iload_n 1, 1) := dk_27 (dk_at dksX8_isSent_0 23 rfl rfl)
theorem dX8_isSent_24 : decode cX8_isSent 24 = .ok (.iaload, 1) := dk_46 (dk_at dksX8_isSent_1 0 rfl rfl)
theorem dX8_isSent_25 : decode cX8_isSent 25 = .ok (.aload_n 0, 1) := dk_42 (dk_at dksX8_isSent_1 1 rfl rfl)
theorem dX8_isSent_26 : decode cX8_isSent 26 = .ok (.getfield 86, 3) := dk_180 0 86 (dk_at dksX8_isSent_1 2 rfl rfl)
theorem dX8_isSent_29 : decode cX8_isSent 29 = .ok (.iload_n 1, 1) := dk_27 (dk_at dksX8_isSent_1 5 rfl rfl)
theorem dX8_isSent_30 : decode cX8_isSent 30 = .ok (.iaload, 1) := dk_46 (dk_at dksX8_isSent_1 6 rfl rfl)
theorem dX8_isSent_31 : decode cX8_isSent 31 = .ok (.invokestatic 321, 3) := dk_184 1 65 (dk_at dksX8_isSent_1 7 rfl rfl)
theorem dX8_isSent_34 : decode cX8_isSent 34 = .ok (.ifCond .eq 7, 3) := dk_153 0 7 (dk_at dksX8_isSent_1 10 rfl rfl)
theorem dX8_isSent_37 : decode cX8_isSent 37 = .ok (.iconst 1, 1) := dk_4 (dk_at dksX8_isSent_1 13 rfl rfl)
theorem dX8_isSent_38 : decode cX8_isSent 38 = .ok (.goto 4, 3) := dk_167 0 4 (dk_at dksX8_isSent_1 14 rfl rfl)
theorem dX8_isSent_41 : decode cX8_isSent 41 = .ok (.iconst 0, 1) := dk_3 (dk_at dksX8_isSent_1 17 rfl rfl)
theorem dX8_isSent_42 : decode cX8_isSent 42 = .ok (.ireturn, 1) := dk_172 (dk_at dksX8_isSent_1 18 rfl rfl)
abbrev cX8_canDo : ByteArray := prog_20_method_46_code
def yX8_canDo : MethodName := ⟨RX8, "canDo", "(III)Z"⟩
def dkwX8_canDo_2 : List UInt8 := [28, 5, 163, 0, 7, 4, 167, 0, 4, 3, 172]
abbrev dktX8_canDo_2 : List UInt8 := dkwX8_canDo_2 ++ []
def dkwX8_canDo_1 : List UInt8 := [28, 5, 163, 0, 7, 4, 167, 0, 4, 3, 172, 28, 153, 0, 17, 28, 7, 159, 0, 12, 27, 154, 0, 12]
abbrev dktX8_canDo_1 : List UInt8 := dkwX8_canDo_1 ++ dktX8_canDo_2
def dkwX8_canDo_0 : List UInt8 := [26, 154, 0, 14, 28, 7, 159, 0, 7, 4, 167, 0, 4, 3, 172, 26, 4, 160, 0, 18, 27, 154, 0, 12]
abbrev dktX8_canDo_0 : List UInt8 := dkwX8_canDo_0 ++ dktX8_canDo_1
theorem dksX8_canDo_0 : cX8_canDo.data.toList.drop 0 = dktX8_canDo_0 := by decide +kernel
theorem dksX8_canDo_1 : cX8_canDo.data.toList.drop 24 = dktX8_canDo_1 := dk_seg dksX8_canDo_0 24 rfl rfl
theorem dksX8_canDo_2 : cX8_canDo.data.toList.drop 48 = dktX8_canDo_2 := dk_seg dksX8_canDo_1 24 rfl rfl
theorem dX8_canDo_0 : decode cX8_canDo 0 = .ok (.iload_n 0, 1) := dk_26 (dk_at dksX8_canDo_0 0 rfl rfl)
theorem dX8_canDo_1 : decode cX8_canDo 1 = .ok (.ifCond .ne 14, 3) := dk_154 0 14 (dk_at dksX8_canDo_0 1 rfl rfl)
theorem dX8_canDo_4 : decode cX8_canDo 4 = .ok (.iload_n 2, 1) := dk_28 (dk_at dksX8_canDo_0 4 rfl rfl)
theorem dX8_canDo_5 : decode cX8_canDo 5 = .ok (.iconst 4, 1) := dk_7 (dk_at dksX8_canDo_0 5 rfl rfl)
theorem dX8_canDo_6 : decode cX8_canDo 6 = .ok (.if_icmp .eq 7, 3) := dk_159 0 7 (dk_at dksX8_canDo_0 6 rfl rfl)
theorem dX8_canDo_9 : decode cX8_canDo 9 = .ok (.iconst 1, 1) := dk_4 (dk_at dksX8_canDo_0 9 rfl rfl)
theorem dX8_canDo_10 : decode cX8_canDo 10 = .ok (.goto 4, 3) := dk_167 0 4 (dk_at dksX8_canDo_0 10 rfl rfl)
theorem dX8_canDo_13 : decode cX8_canDo 13 = .ok (.iconst 0, 1) := dk_3 (dk_at dksX8_canDo_0 13 rfl rfl)
theorem dX8_canDo_14 : decode cX8_canDo 14 = .ok (.ireturn, 1) := dk_172 (dk_at dksX8_canDo_0 14 rfl rfl)
theorem dX8_canDo_15 : decode cX8_canDo 15 = .ok (.iload_n 0, 1) := dk_26 (dk_at dksX8_canDo_0 15 rfl rfl)
theorem dX8_canDo_16 : decode cX8_canDo 16 = .ok (.iconst 1, 1) := dk_4 (dk_at dksX8_canDo_0 16 rfl rfl)
theorem dX8_canDo_17 : decode cX8_canDo 17 = .ok (.if_icmp .ne 18, 3) := dk_160 0 18 (dk_at dksX8_canDo_0 17 rfl rfl)
theorem dX8_canDo_20 : decode cX8_canDo 20 = .ok (.iload_n 1, 1) := dk_27 (dk_at dksX8_canDo_0 20 rfl rfl)
theorem dX8_canDo_21 : decode cX8_canDo 21 = .ok (.ifCond .ne 12, 3) := dk_154 0 12 (dk_at dksX8_canDo_0 21 rfl rfl)
theorem dX8_canDo_24 : decode cX8_canDo 24 = .ok (.iload_n 2, 1) := dk_28 (dk_at dksX8_canDo_1 0 rfl rfl)
theorem dX8_canDo_25 : decode cX8_canDo 25 = .ok (.iconst 2, 1) := dk_5 (dk_at dksX8_canDo_1 1 rfl rfl)
theorem dX8_canDo_26 : decode cX8_canDo 26 = .ok (.if_icmp .gt 7, 3) := dk_163 0 7 (dk_at dksX8_canDo_1 2 rfl rfl)
theorem dX8_canDo_29 : decode cX8_canDo 29 = .ok (.iconst 1, 1) := dk_4 (dk_at dksX8_canDo_1 5 rfl rfl)
theorem dX8_canDo_30 : decode cX8_canDo 30 = .ok (.goto 4, 3) := dk_167 0 4 (dk_at dksX8_canDo_1 6 rfl rfl)
theorem dX8_canDo_33 : decode cX8_canDo 33 = .ok (.iconst 0, 1) := dk_3 (dk_at dksX8_canDo_1 9 rfl rfl)
theorem dX8_canDo_34 : decode cX8_canDo 34 = .ok (.ireturn, 1) := dk_172 (dk_at dksX8_canDo_1 10 rfl rfl)
theorem dX8_canDo_35 : decode cX8_canDo 35 = .ok (.iload_n 2, 1) := dk_28 (dk_at dksX8_canDo_1 11 rfl rfl)
theorem dX8_canDo_36 : decode cX8_canDo 36 = .ok (.ifCond .eq 17, 3) := dk_153 0 17 (dk_at dksX8_canDo_1 12 rfl rfl)
theorem dX8_canDo_39 : decode cX8_canDo 39 = .ok (.iload_n 2, 1) := dk_28 (dk_at dksX8_canDo_1 15 rfl rfl)
theorem dX8_canDo_40 : decode cX8_canDo 40 = .ok (.iconst 4, 1) := dk_7 (dk_at dksX8_canDo_1 16 rfl rfl)
theorem dX8_canDo_41 : decode cX8_canDo 41 = .ok (.if_icmp .eq 12, 3) := dk_159 0 12 (dk_at dksX8_canDo_1 17 rfl rfl)
theorem dX8_canDo_44 : decode cX8_canDo 44 = .ok (.iload_n 1, 1) := dk_27 (dk_at dksX8_canDo_1 20 rfl rfl)
theorem dX8_canDo_45 : decode cX8_canDo 45 = .ok (.ifCond .ne 12, 3) := dk_154 0 12 (dk_at dksX8_canDo_1 21 rfl rfl)
theorem dX8_canDo_48 : decode cX8_canDo 48 = .ok (.iload_n 2, 1) := dk_28 (dk_at dksX8_canDo_2 0 rfl rfl)
theorem dX8_canDo_49 : decode cX8_canDo 49 = .ok (.iconst 2, 1) := dk_5 (dk_at dksX8_canDo_2 1 rfl rfl)
theorem dX8_canDo_50 : decode cX8_canDo 50 = .ok (.if_icmp .gt 7, 3) := dk_163 0 7 (dk_at dksX8_canDo_2 2 rfl rfl)
theorem dX8_canDo_53 : decode cX8_canDo 53 = .ok (.iconst 1, 1) := dk_4 (dk_at dksX8_canDo_2 5 rfl rfl)
theorem dX8_canDo_54 : decode cX8_canDo 54 = .ok (.goto 4, 3) := dk_167 0 4 (dk_at dksX8_canDo_2 6 rfl rfl)
theorem dX8_canDo_57 : decode cX8_canDo 57 = .ok (.iconst 0, 1) := dk_3 (dk_at dksX8_canDo_2 9 rfl rfl)
theorem dX8_canDo_58 : decode cX8_canDo 58 = .ok (.ireturn, 1) := dk_172 (dk_at dksX8_canDo_2 10 rfl rfl)
abbrev cX8_takes : ByteArray := prog_20_method_69_code
def yX8_takes : MethodName := ⟨RX8, "takes", "(I)V"⟩
def dkwX8_takes_8 : List UInt8 := [177]
abbrev dktX8_takes_8 : List UInt8 := dkwX8_takes_8 ++ []
def dkwX8_takes_7 : List UInt8 := [180, 1, 167, 16, 10, 27, 104, 21, 4, 16, 10, 112, 96, 79, 42, 89, 180, 1, 167, 4, 96, 181, 1, 167]
abbrev dktX8_takes_7 : List UInt8 := dkwX8_takes_7 ++ dktX8_takes_8
def dkwX8_takes_6 : List UInt8 := [21, 4, 16, 10, 161, 0, 9, 4, 27, 120, 167, 0, 4, 3, 128, 181, 1, 164, 42, 180, 0, 186, 42]
abbrev dktX8_takes_6 : List UInt8 := dkwX8_takes_6 ++ dktX8_takes_7
def dkwX8_takes_5 : List UInt8 := [46, 79, 42, 180, 0, 153, 27, 42, 180, 0, 242, 79, 42, 180, 0, 138, 27, 4, 84, 42, 89, 180, 1, 164]
abbrev dktX8_takes_5 : List UInt8 := dkwX8_takes_5 ++ dktX8_takes_6
def dkwX8_takes_4 : List UInt8 := [16, 10, 167, 0, 4, 3, 96, 54, 4, 42, 180, 0, 150, 27, 42, 180, 0, 22, 42, 180, 0, 65, 27, 46]
abbrev dktX8_takes_4 : List UInt8 := dkwX8_takes_4 ++ dktX8_takes_5
def dkwX8_takes_3 : List UInt8 := [42, 180, 0, 77, 29, 46, 182, 1, 161, 54, 4, 167, 0, 21, 6, 42, 27, 182, 1, 149, 153, 0, 8]
abbrev dktX8_takes_3 : List UInt8 := dkwX8_takes_3 ++ dktX8_takes_4
def dkwX8_takes_2 : List UInt8 := [153, 0, 38, 42, 27, 42, 180, 0, 68, 29, 46, 27, 160, 0, 12, 42, 180, 0, 71, 29, 46, 167, 0, 9]
abbrev dktX8_takes_2 : List UInt8 := dkwX8_takes_2 ++ dktX8_takes_3
def dkwX8_takes_1 : List UInt8 := [159, 0, 12, 42, 28, 27, 182, 1, 155, 167, 0, 97, 29, 2, 159, 0, 47, 42, 27, 29, 182, 1, 158]
abbrev dktX8_takes_1 : List UInt8 := dkwX8_takes_1 ++ dktX8_takes_2
def dkwX8_takes_0 : List UInt8 := [42, 3, 181, 1, 89, 42, 27, 182, 1, 152, 61, 42, 27, 182, 1, 134, 62, 3, 54, 4, 28, 2]
abbrev dktX8_takes_0 : List UInt8 := dkwX8_takes_0 ++ dktX8_takes_1
theorem dksX8_takes_0 : cX8_takes.data.toList.drop 0 = dktX8_takes_0 := by decide +kernel
theorem dksX8_takes_1 : cX8_takes.data.toList.drop 22 = dktX8_takes_1 := dk_seg dksX8_takes_0 22 rfl rfl
theorem dksX8_takes_2 : cX8_takes.data.toList.drop 45 = dktX8_takes_2 := dk_seg dksX8_takes_1 23 rfl rfl
theorem dksX8_takes_3 : cX8_takes.data.toList.drop 69 = dktX8_takes_3 := dk_seg dksX8_takes_2 24 rfl rfl
theorem dksX8_takes_4 : cX8_takes.data.toList.drop 92 = dktX8_takes_4 := dk_seg dksX8_takes_3 23 rfl rfl
theorem dksX8_takes_5 : cX8_takes.data.toList.drop 116 = dktX8_takes_5 := dk_seg dksX8_takes_4 24 rfl rfl
theorem dksX8_takes_6 : cX8_takes.data.toList.drop 140 = dktX8_takes_6 := dk_seg dksX8_takes_5 24 rfl rfl
theorem dksX8_takes_7 : cX8_takes.data.toList.drop 163 = dktX8_takes_7 := dk_seg dksX8_takes_6 23 rfl rfl
theorem dksX8_takes_8 : cX8_takes.data.toList.drop 187 = dktX8_takes_8 := dk_seg dksX8_takes_7 24 rfl rfl
theorem dX8_takes_0 : decode cX8_takes 0 = .ok (.aload_n 0, 1) := dk_42 (dk_at dksX8_takes_0 0 rfl rfl)
theorem dX8_takes_1 : decode cX8_takes 1 = .ok (.iconst 0, 1) := dk_3 (dk_at dksX8_takes_0 1 rfl rfl)
theorem dX8_takes_2 : decode cX8_takes 2 = .ok (.putfield 345, 3) := dk_181 1 89 (dk_at dksX8_takes_0 2 rfl rfl)
theorem dX8_takes_5 : decode cX8_takes 5 = .ok (.aload_n 0, 1) := dk_42 (dk_at dksX8_takes_0 5 rfl rfl)
theorem dX8_takes_6 : decode cX8_takes 6 = .ok (.iload_n 1, 1) := dk_27 (dk_at dksX8_takes_0 6 rfl rfl)
theorem dX8_takes_7 : decode cX8_takes 7 = .ok (.invokevirtual 408, 3) := dk_182 1 152 (dk_at dksX8_takes_0 7 rfl rfl)
theorem dX8_takes_10 : decode cX8_takes 10 = .ok (.istore_n 2, 1) := dk_61 (dk_at dksX8_takes_0 10 rfl rfl)
theorem dX8_takes_11 : decode cX8_takes 11 = .ok (.aload_n 0, 1) := dk_42 (dk_at dksX8_takes_0 11 rfl rfl)
theorem dX8_takes_12 : decode cX8_takes 12 = .ok (.iload_n 1, 1) := dk_27 (dk_at dksX8_takes_0 12 rfl rfl)
theorem dX8_takes_13 : decode cX8_takes 13 = .ok (.invokevirtual 390, 3) := dk_182 1 134 (dk_at dksX8_takes_0 13 rfl rfl)
theorem dX8_takes_16 : decode cX8_takes 16 = .ok (.istore_n 3, 1) := dk_62 (dk_at dksX8_takes_0 16 rfl rfl)
theorem dX8_takes_17 : decode cX8_takes 17 = .ok (.iconst 0, 1) := dk_3 (dk_at dksX8_takes_0 17 rfl rfl)
theorem dX8_takes_18 : decode cX8_takes 18 = .ok (.istore 4, 2) := dk_54 4 (dk_at dksX8_takes_0 18 rfl rfl)
theorem dX8_takes_20 : decode cX8_takes 20 = .ok (.iload_n 2, 1) := dk_28 (dk_at dksX8_takes_0 20 rfl rfl)
theorem dX8_takes_21 : decode cX8_takes 21 = .ok (.iconst (-1), 1) := dk_2 (dk_at dksX8_takes_0 21 rfl rfl)
theorem dX8_takes_22 : decode cX8_takes 22 = .ok (.if_icmp .eq 12, 3) := dk_159 0 12 (dk_at dksX8_takes_1 0 rfl rfl)
theorem dX8_takes_25 : decode cX8_takes 25 = .ok (.aload_n 0, 1) := dk_42 (dk_at dksX8_takes_1 3 rfl rfl)
theorem dX8_takes_26 : decode cX8_takes 26 = .ok (.iload_n 2, 1) := dk_28 (dk_at dksX8_takes_1 4 rfl rfl)
theorem dX8_takes_27 : decode cX8_takes 27 = .ok (.iload_n 1, 1) := dk_27 (dk_at dksX8_takes_1 5 rfl rfl)
theorem dX8_takes_28 : decode cX8_takes 28 = .ok (.invokevirtual 411, 3) := dk_182 1 155 (dk_at dksX8_takes_1 6 rfl rfl)
theorem dX8_takes_31 : decode cX8_takes 31 = .ok (.goto 97, 3) := dk_167 0 97 (dk_at dksX8_takes_1 9 rfl rfl)
theorem dX8_takes_34 : decode cX8_takes 34 = .ok (.iload_n 3, 1) := dk_29 (dk_at dksX8_takes_1 12 rfl rfl)
theorem dX8_takes_35 : decode cX8_takes 35 = .ok (.iconst (-1), 1) := dk_2 (dk_at dksX8_takes_1 13 rfl rfl)
theorem dX8_takes_36 : decode cX8_takes 36 = .ok (.if_icmp .eq 47, 3) := dk_159 0 47 (dk_at dksX8_takes_1 14 rfl rfl)
theorem dX8_takes_39 : decode cX8_takes 39 = .ok (.aload_n 0, 1) := dk_42 (dk_at dksX8_takes_1 17 rfl rfl)
theorem dX8_takes_40 : decode cX8_takes 40 = .ok (.iload_n 1, 1) := dk_27 (dk_at dksX8_takes_1 18 rfl rfl)
theorem dX8_takes_41 : decode cX8_takes 41 = .ok (.iload_n 3, 1) := dk_29 (dk_at dksX8_takes_1 19 rfl rfl)
theorem dX8_takes_42 : decode cX8_takes 42 = .ok (.invokevirtual 414, 3) := dk_182 1 158 (dk_at dksX8_takes_1 20 rfl rfl)
theorem dX8_takes_45 : decode cX8_takes 45 = .ok (.ifCond .eq 38, 3) := dk_153 0 38 (dk_at dksX8_takes_2 0 rfl rfl)
theorem dX8_takes_48 : decode cX8_takes 48 = .ok (.aload_n 0, 1) := dk_42 (dk_at dksX8_takes_2 3 rfl rfl)
theorem dX8_takes_49 : decode cX8_takes 49 = .ok (.iload_n 1, 1) := dk_27 (dk_at dksX8_takes_2 4 rfl rfl)
theorem dX8_takes_50 : decode cX8_takes 50 = .ok (.aload_n 0, 1) := dk_42 (dk_at dksX8_takes_2 5 rfl rfl)
theorem dX8_takes_51 : decode cX8_takes 51 = .ok (.getfield 68, 3) := dk_180 0 68 (dk_at dksX8_takes_2 6 rfl rfl)
theorem dX8_takes_54 : decode cX8_takes 54 = .ok (.iload_n 3, 1) := dk_29 (dk_at dksX8_takes_2 9 rfl rfl)
theorem dX8_takes_55 : decode cX8_takes 55 = .ok (.iaload, 1) := dk_46 (dk_at dksX8_takes_2 10 rfl rfl)
theorem dX8_takes_56 : decode cX8_takes 56 = .ok (.iload_n 1, 1) := dk_27 (dk_at dksX8_takes_2 11 rfl rfl)
theorem dX8_takes_57 : decode cX8_takes 57 = .ok (.if_icmp .ne 12, 3) := dk_160 0 12 (dk_at dksX8_takes_2 12 rfl rfl)
theorem dX8_takes_60 : decode cX8_takes 60 = .ok (.aload_n 0, 1) := dk_42 (dk_at dksX8_takes_2 15 rfl rfl)
theorem dX8_takes_61 : decode cX8_takes 61 = .ok (.getfield 71, 3) := dk_180 0 71 (dk_at dksX8_takes_2 16 rfl rfl)
theorem dX8_takes_64 : decode cX8_takes 64 = .ok (.iload_n 3, 1) := dk_29 (dk_at dksX8_takes_2 19 rfl rfl)
theorem dX8_takes_65 : decode cX8_takes 65 = .ok (.iaload, 1) := dk_46 (dk_at dksX8_takes_2 20 rfl rfl)
theorem dX8_takes_66 : decode cX8_takes 66 = .ok (.goto 9, 3) := dk_167 0 9 (dk_at dksX8_takes_2 21 rfl rfl)
theorem dX8_takes_69 : decode cX8_takes 69 = .ok (.aload_n 0, 1) := dk_42 (dk_at dksX8_takes_3 0 rfl rfl)
theorem dX8_takes_70 : decode cX8_takes 70 = .ok (.getfield 77, 3) := dk_180 0 77 (dk_at dksX8_takes_3 1 rfl rfl)
theorem dX8_takes_73 : decode cX8_takes 73 = .ok (.iload_n 3, 1) := dk_29 (dk_at dksX8_takes_3 4 rfl rfl)
theorem dX8_takes_74 : decode cX8_takes 74 = .ok (.iaload, 1) := dk_46 (dk_at dksX8_takes_3 5 rfl rfl)
theorem dX8_takes_75 : decode cX8_takes 75 = .ok (.invokevirtual 417, 3) := dk_182 1 161 (dk_at dksX8_takes_3 6 rfl rfl)
theorem dX8_takes_78 : decode cX8_takes 78 = .ok (.istore 4, 2) := dk_54 4 (dk_at dksX8_takes_3 9 rfl rfl)
theorem dX8_takes_80 : decode cX8_takes 80 = .ok (.goto 21, 3) := dk_167 0 21 (dk_at dksX8_takes_3 11 rfl rfl)
theorem dX8_takes_83 : decode cX8_takes 83 = .ok (.iconst 3, 1) := dk_6 (dk_at dksX8_takes_3 14 rfl rfl)
theorem dX8_takes_84 : decode cX8_takes 84 = .ok (.aload_n 0, 1) := dk_42 (dk_at dksX8_takes_3 15 rfl rfl)
theorem dX8_takes_85 : decode cX8_takes 85 = .ok (.iload_n 1, 1) := dk_27 (dk_at dksX8_takes_3 16 rfl rfl)
theorem dX8_takes_86 : decode cX8_takes 86 = .ok (.invokevirtual 405, 3) := dk_182 1 149 (dk_at dksX8_takes_3 17 rfl rfl)
theorem dX8_takes_89 : decode cX8_takes 89 = .ok (.ifCond .eq 8, 3) := dk_153 0 8 (dk_at dksX8_takes_3 20 rfl rfl)
theorem dX8_takes_92 : decode cX8_takes 92 = .ok (.bipush 10, 2) := dk_16 10 (dk_at dksX8_takes_4 0 rfl rfl)
theorem dX8_takes_94 : decode cX8_takes 94 = .ok (.goto 4, 3) := dk_167 0 4 (dk_at dksX8_takes_4 2 rfl rfl)
theorem dX8_takes_97 : decode cX8_takes 97 = .ok (.iconst 0, 1) := dk_3 (dk_at dksX8_takes_4 5 rfl rfl)
theorem dX8_takes_98 : decode cX8_takes 98 = .ok (.iadd, 1) := dk_96 (dk_at dksX8_takes_4 6 rfl rfl)
theorem dX8_takes_99 : decode cX8_takes 99 = .ok (.istore 4, 2) := dk_54 4 (dk_at dksX8_takes_4 7 rfl rfl)
theorem dX8_takes_101 : decode cX8_takes 101 = .ok (.aload_n 0, 1) := dk_42 (dk_at dksX8_takes_4 9 rfl rfl)
theorem dX8_takes_102 : decode cX8_takes 102 = .ok (.getfield 150, 3) := dk_180 0 150 (dk_at dksX8_takes_4 10 rfl rfl)
theorem dX8_takes_105 : decode cX8_takes 105 = .ok (.iload_n 1, 1) := dk_27 (dk_at dksX8_takes_4 13 rfl rfl)
theorem dX8_takes_106 : decode cX8_takes 106 = .ok (.aload_n 0, 1) := dk_42 (dk_at dksX8_takes_4 14 rfl rfl)
theorem dX8_takes_107 : decode cX8_takes 107 = .ok (.getfield 22, 3) := dk_180 0 22 (dk_at dksX8_takes_4 15 rfl rfl)
theorem dX8_takes_110 : decode cX8_takes 110 = .ok (.aload_n 0, 1) := dk_42 (dk_at dksX8_takes_4 18 rfl rfl)
theorem dX8_takes_111 : decode cX8_takes 111 = .ok (.getfield 65, 3) := dk_180 0 65 (dk_at dksX8_takes_4 19 rfl rfl)
theorem dX8_takes_114 : decode cX8_takes 114 = .ok (.iload_n 1, 1) := dk_27 (dk_at dksX8_takes_4 22 rfl rfl)
theorem dX8_takes_115 : decode cX8_takes 115 = .ok (.iaload, 1) := dk_46 (dk_at dksX8_takes_4 23 rfl rfl)
theorem dX8_takes_116 : decode cX8_takes 116 = .ok (.iaload, 1) := dk_46 (dk_at dksX8_takes_5 0 rfl rfl)
theorem dX8_takes_117 : decode cX8_takes 117 = .ok (.iastore, 1) := dk_79 (dk_at dksX8_takes_5 1 rfl rfl)
theorem dX8_takes_118 : decode cX8_takes 118 = .ok (.aload_n 0, 1) := dk_42 (dk_at dksX8_takes_5 2 rfl rfl)
theorem dX8_takes_119 : decode cX8_takes 119 = .ok (.getfield 153, 3) := dk_180 0 153 (dk_at dksX8_takes_5 3 rfl rfl)
theorem dX8_takes_122 : decode cX8_takes 122 = .ok (.iload_n 1, 1) := dk_27 (dk_at dksX8_takes_5 6 rfl rfl)
theorem dX8_takes_123 : decode cX8_takes 123 = .ok (.aload_n 0, 1) := dk_42 (dk_at dksX8_takes_5 7 rfl rfl)
theorem dX8_takes_124 : decode cX8_takes 124 = .ok (.getfield 242, 3) := dk_180 0 242 (dk_at dksX8_takes_5 8 rfl rfl)
theorem dX8_takes_127 : decode cX8_takes 127 = .ok (.iastore, 1) := dk_79 (dk_at dksX8_takes_5 11 rfl rfl)
theorem dX8_takes_128 : decode cX8_takes 128 = .ok (.aload_n 0, 1) := dk_42 (dk_at dksX8_takes_5 12 rfl rfl)
theorem dX8_takes_129 : decode cX8_takes 129 = .ok (.getfield 138, 3) := dk_180 0 138 (dk_at dksX8_takes_5 13 rfl rfl)
theorem dX8_takes_132 : decode cX8_takes 132 = .ok (.iload_n 1, 1) := dk_27 (dk_at dksX8_takes_5 16 rfl rfl)
theorem dX8_takes_133 : decode cX8_takes 133 = .ok (.iconst 1, 1) := dk_4 (dk_at dksX8_takes_5 17 rfl rfl)
theorem dX8_takes_134 : decode cX8_takes 134 = .ok (.bastore, 1) := dk_84 (dk_at dksX8_takes_5 18 rfl rfl)
theorem dX8_takes_135 : decode cX8_takes 135 = .ok (.aload_n 0, 1) := dk_42 (dk_at dksX8_takes_5 19 rfl rfl)
theorem dX8_takes_136 : decode cX8_takes 136 = .ok (.dup, 1) := dk_89 (dk_at dksX8_takes_5 20 rfl rfl)
theorem dX8_takes_137 : decode cX8_takes 137 = .ok (.getfield 420, 3) := dk_180 1 164 (dk_at dksX8_takes_5 21 rfl rfl)
theorem dX8_takes_140 : decode cX8_takes 140 = .ok (.iload 4, 2) := dk_21 4 (dk_at dksX8_takes_6 0 rfl rfl)
theorem dX8_takes_142 : decode cX8_takes 142 = .ok (.bipush 10, 2) := dk_16 10 (dk_at dksX8_takes_6 2 rfl rfl)
theorem dX8_takes_144 : decode cX8_takes 144 = .ok (.if_icmp .lt 9, 3) := dk_161 0 9 (dk_at dksX8_takes_6 4 rfl rfl)
theorem dX8_takes_147 : decode cX8_takes 147 = .ok (.iconst 1, 1) := dk_4 (dk_at dksX8_takes_6 7 rfl rfl)
theorem dX8_takes_148 : decode cX8_takes 148 = .ok (.iload_n 1, 1) := dk_27 (dk_at dksX8_takes_6 8 rfl rfl)
theorem dX8_takes_149 : decode cX8_takes 149 = .ok (.ishl, 1) := dk_120 (dk_at dksX8_takes_6 9 rfl rfl)
theorem dX8_takes_150 : decode cX8_takes 150 = .ok (.goto 4, 3) := dk_167 0 4 (dk_at dksX8_takes_6 10 rfl rfl)
theorem dX8_takes_153 : decode cX8_takes 153 = .ok (.iconst 0, 1) := dk_3 (dk_at dksX8_takes_6 13 rfl rfl)
theorem dX8_takes_154 : decode cX8_takes 154 = .ok (.ior, 1) := dk_128 (dk_at dksX8_takes_6 14 rfl rfl)
theorem dX8_takes_155 : decode cX8_takes 155 = .ok (.putfield 420, 3) := dk_181 1 164 (dk_at dksX8_takes_6 15 rfl rfl)
theorem dX8_takes_158 : decode cX8_takes 158 = .ok (.aload_n 0, 1) := dk_42 (dk_at dksX8_takes_6 18 rfl rfl)
theorem dX8_takes_159 : decode cX8_takes 159 = .ok (.getfield 186, 3) := dk_180 0 186 (dk_at dksX8_takes_6 19 rfl rfl)
theorem dX8_takes_162 : decode cX8_takes 162 = .ok (.aload_n 0, 1) := dk_42 (dk_at dksX8_takes_6 22 rfl rfl)
theorem dX8_takes_163 : decode cX8_takes 163 = .ok (.getfield 423, 3) := dk_180 1 167 (dk_at dksX8_takes_7 0 rfl rfl)
theorem dX8_takes_166 : decode cX8_takes 166 = .ok (.bipush 10, 2) := dk_16 10 (dk_at dksX8_takes_7 3 rfl rfl)
theorem dX8_takes_168 : decode cX8_takes 168 = .ok (.iload_n 1, 1) := dk_27 (dk_at dksX8_takes_7 5 rfl rfl)
theorem dX8_takes_169 : decode cX8_takes 169 = .ok (.imul, 1) := dk_104 (dk_at dksX8_takes_7 6 rfl rfl)
theorem dX8_takes_170 : decode cX8_takes 170 = .ok (.iload 4, 2) := dk_21 4 (dk_at dksX8_takes_7 7 rfl rfl)
theorem dX8_takes_172 : decode cX8_takes 172 = .ok (.bipush 10, 2) := dk_16 10 (dk_at dksX8_takes_7 9 rfl rfl)
theorem dX8_takes_174 : decode cX8_takes 174 = .ok (.irem, 1) := dk_112 (dk_at dksX8_takes_7 11 rfl rfl)
theorem dX8_takes_175 : decode cX8_takes 175 = .ok (.iadd, 1) := dk_96 (dk_at dksX8_takes_7 12 rfl rfl)
theorem dX8_takes_176 : decode cX8_takes 176 = .ok (.iastore, 1) := dk_79 (dk_at dksX8_takes_7 13 rfl rfl)
theorem dX8_takes_177 : decode cX8_takes 177 = .ok (.aload_n 0, 1) := dk_42 (dk_at dksX8_takes_7 14 rfl rfl)
theorem dX8_takes_178 : decode cX8_takes 178 = .ok (.dup, 1) := dk_89 (dk_at dksX8_takes_7 15 rfl rfl)
theorem dX8_takes_179 : decode cX8_takes 179 = .ok (.getfield 423, 3) := dk_180 1 167 (dk_at dksX8_takes_7 16 rfl rfl)
theorem dX8_takes_182 : decode cX8_takes 182 = .ok (.iconst 1, 1) := dk_4 (dk_at dksX8_takes_7 19 rfl rfl)
theorem dX8_takes_183 : decode cX8_takes 183 = .ok (.iadd, 1) := dk_96 (dk_at dksX8_takes_7 20 rfl rfl)
theorem dX8_takes_184 : decode cX8_takes 184 = .ok (.putfield 423, 3) := dk_181 1 167 (dk_at dksX8_takes_7 21 rfl rfl)
theorem dX8_takes_187 : decode cX8_takes 187 = .ok (.return_, 1) := dk_177 (dk_at dksX8_takes_8 0 rfl rfl)
abbrev cX8_entryFor : ByteArray := prog_20_method_61_code
def yX8_entryFor : MethodName := ⟨RX8, "entryFor", "(I)I"⟩
def dkwX8_entryFor_1 : List UInt8 := [167, 0, 4, 28, 61, 132, 3, 1, 167, 255, 230, 28, 172]
abbrev dktX8_entryFor_1 : List UInt8 := dkwX8_entryFor_1 ++ []
def dkwX8_entryFor_0 : List UInt8 := [2, 61, 3, 62, 29, 42, 180, 0, 232, 162, 0, 24, 42, 29, 27, 182, 1, 131, 153, 0, 7, 29]
abbrev dktX8_entryFor_0 : List UInt8 := dkwX8_entryFor_0 ++ dktX8_entryFor_1
theorem dksX8_entryFor_0 : cX8_entryFor.data.toList.drop 0 = dktX8_entryFor_0 := by decide +kernel
theorem dksX8_entryFor_1 : cX8_entryFor.data.toList.drop 22 = dktX8_entryFor_1 := dk_seg dksX8_entryFor_0 22 rfl rfl
theorem dX8_entryFor_0 : decode cX8_entryFor 0 = .ok (.iconst (-1), 1) := dk_2 (dk_at dksX8_entryFor_0 0 rfl rfl)
theorem dX8_entryFor_1 : decode cX8_entryFor 1 = .ok (.istore_n 2, 1) := dk_61 (dk_at dksX8_entryFor_0 1 rfl rfl)
theorem dX8_entryFor_2 : decode cX8_entryFor 2 = .ok (.iconst 0, 1) := dk_3 (dk_at dksX8_entryFor_0 2 rfl rfl)
theorem dX8_entryFor_3 : decode cX8_entryFor 3 = .ok (.istore_n 3, 1) := dk_62 (dk_at dksX8_entryFor_0 3 rfl rfl)
theorem dX8_entryFor_4 : decode cX8_entryFor 4 = .ok (.iload_n 3, 1) := dk_29 (dk_at dksX8_entryFor_0 4 rfl rfl)
theorem dX8_entryFor_5 : decode cX8_entryFor 5 = .ok (.aload_n 0, 1) := dk_42 (dk_at dksX8_entryFor_0 5 rfl rfl)
theorem dX8_entryFor_6 : decode cX8_entryFor 6 = .ok (.getfield 232, 3) := dk_180 0 232 (dk_at dksX8_entryFor_0 6 rfl rfl)
theorem dX8_entryFor_9 : decode cX8_entryFor 9 = .ok (.if_icmp .ge 24, 3) := dk_162 0 24 (dk_at dksX8_entryFor_0 9 rfl rfl)
theorem dX8_entryFor_12 : decode cX8_entryFor 12 = .ok (.aload_n 0, 1) := dk_42 (dk_at dksX8_entryFor_0 12 rfl rfl)
theorem dX8_entryFor_13 : decode cX8_entryFor 13 = .ok (.iload_n 3, 1) := dk_29 (dk_at dksX8_entryFor_0 13 rfl rfl)
theorem dX8_entryFor_14 : decode cX8_entryFor 14 = .ok (.iload_n 1, 1) := dk_27 (dk_at dksX8_entryFor_0 14 rfl rfl)
theorem dX8_entryFor_15 : decode cX8_entryFor 15 = .ok (.invokevirtual 387, 3) := dk_182 1 131 (dk_at dksX8_entryFor_0 15 rfl rfl)
theorem dX8_entryFor_18 : decode cX8_entryFor 18 = .ok (.ifCond .eq 7, 3) := dk_153 0 7 (dk_at dksX8_entryFor_0 18 rfl rfl)
theorem dX8_entryFor_21 : decode cX8_entryFor 21 = .ok (.iload_n 3, 1) := dk_29 (dk_at dksX8_entryFor_0 21 rfl rfl)
theorem dX8_entryFor_22 : decode cX8_entryFor 22 = .ok (.goto 4, 3) := dk_167 0 4 (dk_at dksX8_entryFor_1 0 rfl rfl)
theorem dX8_entryFor_25 : decode cX8_entryFor 25 = .ok (.iload_n 2, 1) := dk_28 (dk_at dksX8_entryFor_1 3 rfl rfl)
theorem dX8_entryFor_26 : decode cX8_entryFor 26 = .ok (.istore_n 2, 1) := dk_61 (dk_at dksX8_entryFor_1 4 rfl rfl)
theorem dX8_entryFor_27 : decode cX8_entryFor 27 = .ok (.iinc 3 1, 3) := dk_132 3 1 (dk_at dksX8_entryFor_1 5 rfl rfl)
theorem dX8_entryFor_30 : decode cX8_entryFor 30 = .ok (.goto (-26), 3) := dk_167 255 230 (dk_at dksX8_entryFor_1 8 rfl rfl)
theorem dX8_entryFor_33 : decode cX8_entryFor 33 = .ok (.iload_n 2, 1) := dk_28 (dk_at dksX8_entryFor_1 11 rfl rfl)
theorem dX8_entryFor_34 : decode cX8_entryFor 34 = .ok (.ireturn, 1) := dk_172 (dk_at dksX8_entryFor_1 12 rfl rfl)
abbrev cX8_canServe : ByteArray := prog_20_method_60_code
def yX8_canServe : MethodName := ⟨RX8, "canServe", "(II)Z"⟩
def dkwX8_canServe_7 : List UInt8 := [153, 0, 12, 21, 5, 153, 0, 7, 4, 167, 0, 4, 3, 62, 132, 4, 1, 167, 255, 117, 29, 172]
abbrev dktX8_canServe_7 : List UInt8 := dkwX8_canServe_7 ++ []
def dkwX8_canServe_6 : List UInt8 := [21, 6, 46, 184, 1, 127, 153, 0, 7, 4, 167, 0, 4, 3, 54, 5, 132, 6, 1, 167, 255, 159, 29]
abbrev dktX8_canServe_6 : List UInt8 := dkwX8_canServe_6 ++ dktX8_canServe_7
def dkwX8_canServe_5 : List UInt8 := [180, 0, 132, 21, 4, 46, 42, 180, 0, 135, 21, 4, 46, 42, 180, 0, 86, 21, 6, 46, 42, 180, 0, 89]
abbrev dktX8_canServe_5 : List UInt8 := dkwX8_canServe_5 ++ dktX8_canServe_6
def dkwX8_canServe_4 : List UInt8 := [21, 4, 46, 160, 0, 7, 4, 167, 0, 4, 3, 54, 7, 21, 5, 154, 0, 42, 21, 7, 153, 0, 41, 42]
abbrev dktX8_canServe_4 : List UInt8 := dkwX8_canServe_4 ++ dktX8_canServe_5
def dkwX8_canServe_3 : List UInt8 := [162, 0, 94, 42, 21, 6, 28, 182, 1, 68, 153, 0, 24, 42, 180, 0, 83, 21, 6, 46, 42, 180, 0, 129]
abbrev dktX8_canServe_3 : List UInt8 := dkwX8_canServe_3 ++ dktX8_canServe_4
def dkwX8_canServe_2 : List UInt8 := [104, 42, 180, 0, 126, 27, 46, 96, 162, 0, 130, 3, 54, 5, 3, 54, 6, 21, 6, 42, 180, 1, 55]
abbrev dktX8_canServe_2 : List UInt8 := dkwX8_canServe_2 ++ dktX8_canServe_3
def dkwX8_canServe_1 : List UInt8 := [46, 100, 42, 180, 1, 124, 163, 0, 7, 4, 167, 0, 4, 3, 62, 7, 27, 104, 54, 4, 21, 4, 7, 27]
abbrev dktX8_canServe_1 : List UInt8 := dkwX8_canServe_1 ++ dktX8_canServe_2
def dkwX8_canServe_0 : List UInt8 := [42, 180, 0, 102, 27, 46, 42, 180, 0, 65, 28, 46, 160, 0, 25, 42, 180, 0, 235, 42, 180, 0, 105, 27]
abbrev dktX8_canServe_0 : List UInt8 := dkwX8_canServe_0 ++ dktX8_canServe_1
theorem dksX8_canServe_0 : cX8_canServe.data.toList.drop 0 = dktX8_canServe_0 := by decide +kernel
theorem dksX8_canServe_1 : cX8_canServe.data.toList.drop 24 = dktX8_canServe_1 := dk_seg dksX8_canServe_0 24 rfl rfl
theorem dksX8_canServe_2 : cX8_canServe.data.toList.drop 48 = dktX8_canServe_2 := dk_seg dksX8_canServe_1 24 rfl rfl
theorem dksX8_canServe_3 : cX8_canServe.data.toList.drop 71 = dktX8_canServe_3 := dk_seg dksX8_canServe_2 23 rfl rfl
theorem dksX8_canServe_4 : cX8_canServe.data.toList.drop 95 = dktX8_canServe_4 := dk_seg dksX8_canServe_3 24 rfl rfl
theorem dksX8_canServe_5 : cX8_canServe.data.toList.drop 119 = dktX8_canServe_5 := dk_seg dksX8_canServe_4 24 rfl rfl
theorem dksX8_canServe_6 : cX8_canServe.data.toList.drop 143 = dktX8_canServe_6 := dk_seg dksX8_canServe_5 24 rfl rfl
theorem dksX8_canServe_7 : cX8_canServe.data.toList.drop 166 = dktX8_canServe_7 := dk_seg dksX8_canServe_6 23 rfl rfl
theorem dX8_canServe_0 : decode cX8_canServe 0 = .ok (.aload_n 0, 1) := dk_42 (dk_at dksX8_canServe_0 0 rfl rfl)
theorem dX8_canServe_1 : decode cX8_canServe 1 = .ok (.getfield 102, 3) := dk_180 0 102 (dk_at dksX8_canServe_0 1 rfl rfl)
theorem dX8_canServe_4 : decode cX8_canServe 4 = .ok (.iload_n 1, 1) := dk_27 (dk_at dksX8_canServe_0 4 rfl rfl)
theorem dX8_canServe_5 : decode cX8_canServe 5 = .ok (.iaload, 1) := dk_46 (dk_at dksX8_canServe_0 5 rfl rfl)
theorem dX8_canServe_6 : decode cX8_canServe 6 = .ok (.aload_n 0, 1) := dk_42 (dk_at dksX8_canServe_0 6 rfl rfl)
theorem dX8_canServe_7 : decode cX8_canServe 7 = .ok (.getfield 65, 3) := dk_180 0 65 (dk_at dksX8_canServe_0 7 rfl rfl)
theorem dX8_canServe_10 : decode cX8_canServe 10 = .ok (.iload_n 2, 1) := dk_28 (dk_at dksX8_canServe_0 10 rfl rfl)
theorem dX8_canServe_11 : decode cX8_canServe 11 = .ok (.iaload, 1) := dk_46 (dk_at dksX8_canServe_0 11 rfl rfl)
theorem dX8_canServe_12 : decode cX8_canServe 12 = .ok (.if_icmp .ne 25, 3) := dk_160 0 25 (dk_at dksX8_canServe_0 12 rfl rfl)
theorem dX8_canServe_15 : decode cX8_canServe 15 = .ok (.aload_n 0, 1) := dk_42 (dk_at dksX8_canServe_0 15 rfl rfl)
theorem dX8_canServe_16 : decode cX8_canServe 16 = .ok (.getfield 235, 3) := dk_180 0 235 (dk_at dksX8_canServe_0 16 rfl rfl)
theorem dX8_canServe_19 : decode cX8_canServe 19 = .ok (.aload_n 0, 1) := dk_42 (dk_at dksX8_canServe_0 19 rfl rfl)
theorem dX8_canServe_20 : decode cX8_canServe 20 = .ok (.getfield 105, 3) := dk_180 0 105 (dk_at dksX8_canServe_0 20 rfl rfl)
theorem dX8_canServe_23 : decode cX8_canServe 23 = .ok (.iload_n 1, 1) := dk_27 (dk_at dksX8_canServe_0 23 rfl rfl)
theorem dX8_canServe_24 : decode cX8_canServe 24 = .ok (.iaload, 1) := dk_46 (dk_at dksX8_canServe_1 0 rfl rfl)
theorem dX8_canServe_25 : decode cX8_canServe 25 = .ok (.isub, 1) := dk_100 (dk_at dksX8_canServe_1 1 rfl rfl)
theorem dX8_canServe_26 : decode cX8_canServe 26 = .ok (.aload_n 0, 1) := dk_42 (dk_at dksX8_canServe_1 2 rfl rfl)
theorem dX8_canServe_27 : decode cX8_canServe 27 = .ok (.getfield 380, 3) := dk_180 1 124 (dk_at dksX8_canServe_1 3 rfl rfl)
theorem dX8_canServe_30 : decode cX8_canServe 30 = .ok (.if_icmp .gt 7, 3) := dk_163 0 7 (dk_at dksX8_canServe_1 6 rfl rfl)
theorem dX8_canServe_33 : decode cX8_canServe 33 = .ok (.iconst 1, 1) := dk_4 (dk_at dksX8_canServe_1 9 rfl rfl)
theorem dX8_canServe_34 : decode cX8_canServe 34 = .ok (.goto 4, 3) := dk_167 0 4 (dk_at dksX8_canServe_1 10 rfl rfl)
theorem dX8_canServe_37 : decode cX8_canServe 37 = .ok (.iconst 0, 1) := dk_3 (dk_at dksX8_canServe_1 13 rfl rfl)
theorem dX8_canServe_38 : decode cX8_canServe 38 = .ok (.istore_n 3, 1) := dk_62 (dk_at dksX8_canServe_1 14 rfl rfl)
theorem dX8_canServe_39 : decode cX8_canServe 39 = .ok (.iconst 4, 1) := dk_7 (dk_at dksX8_canServe_1 15 rfl rfl)
theorem dX8_canServe_40 : decode cX8_canServe 40 = .ok (.iload_n 1, 1) := dk_27 (dk_at dksX8_canServe_1 16 rfl rfl)
theorem dX8_canServe_41 : decode cX8_canServe 41 = .ok (.imul, 1) := dk_104 (dk_at dksX8_canServe_1 17 rfl rfl)
theorem dX8_canServe_42 : decode cX8_canServe 42 = .ok (.istore 4, 2) := dk_54 4 (dk_at dksX8_canServe_1 18 rfl rfl)
theorem dX8_canServe_44 : decode cX8_canServe 44 = .ok (.iload 4, 2) := dk_21 4 (dk_at dksX8_canServe_1 20 rfl rfl)
theorem dX8_canServe_46 : decode cX8_canServe 46 = .ok (.iconst 4, 1) := dk_7 (dk_at dksX8_canServe_1 22 rfl rfl)
theorem dX8_canServe_47 : decode cX8_canServe 47 = .ok (.iload_n 1, 1) := dk_27 (dk_at dksX8_canServe_1 23 rfl rfl)
theorem dX8_canServe_48 : decode cX8_canServe 48 = .ok (.imul, 1) := dk_104 (dk_at dksX8_canServe_2 0 rfl rfl)
theorem dX8_canServe_49 : decode cX8_canServe 49 = .ok (.aload_n 0, 1) := dk_42 (dk_at dksX8_canServe_2 1 rfl rfl)
theorem dX8_canServe_50 : decode cX8_canServe 50 = .ok (.getfield 126, 3) := dk_180 0 126 (dk_at dksX8_canServe_2 2 rfl rfl)
theorem dX8_canServe_53 : decode cX8_canServe 53 = .ok (.iload_n 1, 1) := dk_27 (dk_at dksX8_canServe_2 5 rfl rfl)
theorem dX8_canServe_54 : decode cX8_canServe 54 = .ok (.iaload, 1) := dk_46 (dk_at dksX8_canServe_2 6 rfl rfl)
theorem dX8_canServe_55 : decode cX8_canServe 55 = .ok (.iadd, 1) := dk_96 (dk_at dksX8_canServe_2 7 rfl rfl)
theorem dX8_canServe_56 : decode cX8_canServe 56 = .ok (.if_icmp .ge 130, 3) := dk_162 0 130 (dk_at dksX8_canServe_2 8 rfl rfl)
theorem dX8_canServe_59 : decode cX8_canServe 59 = .ok (.iconst 0, 1) := dk_3 (dk_at dksX8_canServe_2 11 rfl rfl)
theorem dX8_canServe_60 : decode cX8_canServe 60 = .ok (.istore 5, 2) := dk_54 5 (dk_at dksX8_canServe_2 12 rfl rfl)
theorem dX8_canServe_62 : decode cX8_canServe 62 = .ok (.iconst 0, 1) := dk_3 (dk_at dksX8_canServe_2 14 rfl rfl)
theorem dX8_canServe_63 : decode cX8_canServe 63 = .ok (.istore 6, 2) := dk_54 6 (dk_at dksX8_canServe_2 15 rfl rfl)
theorem dX8_canServe_65 : decode cX8_canServe 65 = .ok (.iload 6, 2) := dk_21 6 (dk_at dksX8_canServe_2 17 rfl rfl)
theorem dX8_canServe_67 : decode cX8_canServe 67 = .ok (.aload_n 0, 1) := dk_42 (dk_at dksX8_canServe_2 19 rfl rfl)
theorem dX8_canServe_68 : decode cX8_canServe 68 = .ok (.getfield 311, 3) := dk_180 1 55 (dk_at dksX8_canServe_2 20 rfl rfl)
theorem dX8_canServe_71 : decode cX8_canServe 71 = .ok (.if_icmp .ge 94, 3) := dk_162 0 94 (dk_at dksX8_canServe_3 0 rfl rfl)
theorem dX8_canServe_74 : decode cX8_canServe 74 = .ok (.aload_n 0, 1) := dk_42 (dk_at dksX8_canServe_3 3 rfl rfl)
theorem dX8_canServe_75 : decode cX8_canServe 75 = .ok (.iload 6, 2) := dk_21 6 (dk_at dksX8_canServe_3 4 rfl rfl)
theorem dX8_canServe_77 : decode cX8_canServe 77 = .ok (.iload_n 2, 1) := dk_28 (dk_at dksX8_canServe_3 6 rfl rfl)
theorem dX8_canServe_78 : decode cX8_canServe 78 = .ok (.invokevirtual 324, 3) := dk_182 1 68 (dk_at dksX8_canServe_3 7 rfl rfl)
theorem dX8_canServe_81 : decode cX8_canServe 81 = .ok (.ifCond .eq 24, 3) := dk_153 0 24 (dk_at dksX8_canServe_3 10 rfl rfl)
theorem dX8_canServe_84 : decode cX8_canServe 84 = .ok (.aload_n 0, 1) := dk_42 (dk_at dksX8_canServe_3 13 rfl rfl)
theorem dX8_canServe_85 : decode cX8_canServe 85 = .ok (.getfield 83, 3) := dk_180 0 83 (dk_at dksX8_canServe_3 14 rfl rfl)
theorem dX8_canServe_88 : decode cX8_canServe 88 = .ok (.iload 6, 2) := dk_21 6 (dk_at dksX8_canServe_3 17 rfl rfl)
theorem dX8_canServe_90 : decode cX8_canServe 90 = .ok (.iaload, 1) := dk_46 (dk_at dksX8_canServe_3 19 rfl rfl)
theorem dX8_canServe_91 : decode cX8_canServe 91 = .ok (.aload_n 0, 1) := dk_42 (dk_at dksX8_canServe_3 20 rfl rfl)
theorem dX8_canServe_92 : decode cX8_canServe 92 = .ok (.getfield 129, 3) := dk_180 0 129 (dk_at dksX8_canServe_3 21 rfl rfl)
theorem dX8_canServe_95 : decode cX8_canServe 95 = .ok (.iload 4, 2) := dk_21 4 (dk_at dksX8_canServe_4 0 rfl rfl)
theorem dX8_canServe_97 : decode cX8_canServe 97 = .ok (.iaload, 1) := dk_46 (dk_at dksX8_canServe_4 2 rfl rfl)
theorem dX8_canServe_98 : decode cX8_canServe 98 = .ok (.if_icmp .ne 7, 3) := dk_160 0 7 (dk_at dksX8_canServe_4 3 rfl rfl)
theorem dX8_canServe_101 : decode cX8_canServe 101 = .ok (.iconst 1, 1) := dk_4 (dk_at dksX8_canServe_4 6 rfl rfl)
theorem dX8_canServe_102 : decode cX8_canServe 102 = .ok (.goto 4, 3) := dk_167 0 4 (dk_at dksX8_canServe_4 7 rfl rfl)
theorem dX8_canServe_105 : decode cX8_canServe 105 = .ok (.iconst 0, 1) := dk_3 (dk_at dksX8_canServe_4 10 rfl rfl)
theorem dX8_canServe_106 : decode cX8_canServe 106 = .ok (.istore 7, 2) := dk_54 7 (dk_at dksX8_canServe_4 11 rfl rfl)
theorem dX8_canServe_108 : decode cX8_canServe 108 = .ok (.iload 5, 2) := dk_21 5 (dk_at dksX8_canServe_4 13 rfl rfl)
theorem dX8_canServe_110 : decode cX8_canServe 110 = .ok (.ifCond .ne 42, 3) := dk_154 0 42 (dk_at dksX8_canServe_4 15 rfl rfl)
theorem dX8_canServe_113 : decode cX8_canServe 113 = .ok (.iload 7, 2) := dk_21 7 (dk_at dksX8_canServe_4 18 rfl rfl)
theorem dX8_canServe_115 : decode cX8_canServe 115 = .ok (.ifCond .eq 41, 3) := dk_153 0 41 (dk_at dksX8_canServe_4 20 rfl rfl)
theorem dX8_canServe_118 : decode cX8_canServe 118 = .ok (.aload_n 0, 1) := dk_42 (dk_at dksX8_canServe_4 23 rfl rfl)
theorem dX8_canServe_119 : decode cX8_canServe 119 = .ok (.getfield 132, 3) := dk_180 0 132 (dk_at dksX8_canServe_5 0 rfl rfl)
theorem dX8_canServe_122 : decode cX8_canServe 122 = .ok (.iload 4, 2) := dk_21 4 (dk_at dksX8_canServe_5 3 rfl rfl)
theorem dX8_canServe_124 : decode cX8_canServe 124 = .ok (.iaload, 1) := dk_46 (dk_at dksX8_canServe_5 5 rfl rfl)
theorem dX8_canServe_125 : decode cX8_canServe 125 = .ok (.aload_n 0, 1) := dk_42 (dk_at dksX8_canServe_5 6 rfl rfl)
theorem dX8_canServe_126 : decode cX8_canServe 126 = .ok (.getfield 135, 3) := dk_180 0 135 (dk_at dksX8_canServe_5 7 rfl rfl)
theorem dX8_canServe_129 : decode cX8_canServe 129 = .ok (.iload 4, 2) := dk_21 4 (dk_at dksX8_canServe_5 10 rfl rfl)
theorem dX8_canServe_131 : decode cX8_canServe 131 = .ok (.iaload, 1) := dk_46 (dk_at dksX8_canServe_5 12 rfl rfl)
theorem dX8_canServe_132 : decode cX8_canServe 132 = .ok (.aload_n 0, 1) := dk_42 (dk_at dksX8_canServe_5 13 rfl rfl)
theorem dX8_canServe_133 : decode cX8_canServe 133 = .ok (.getfield 86, 3) := dk_180 0 86 (dk_at dksX8_canServe_5 14 rfl rfl)
theorem dX8_canServe_136 : decode cX8_canServe 136 = .ok (.iload 6, 2) := dk_21 6 (dk_at dksX8_canServe_5 17 rfl rfl)
theorem dX8_canServe_138 : decode cX8_canServe 138 = .ok (.iaload, 1) := dk_46 (dk_at dksX8_canServe_5 19 rfl rfl)
theorem dX8_canServe_139 : decode cX8_canServe 139 = .ok (.aload_n 0, 1) := dk_42 (dk_at dksX8_canServe_5 20 rfl rfl)
theorem dX8_canServe_140 : decode cX8_canServe 140 = .ok (.getfield 89, 3) := dk_180 0 89 (dk_at dksX8_canServe_5 21 rfl rfl)
theorem dX8_canServe_143 : decode cX8_canServe 143 = .ok (.iload 6, 2) := dk_21 6 (dk_at dksX8_canServe_6 0 rfl rfl)
theorem dX8_canServe_145 : decode cX8_canServe 145 = .ok (.iaload, 1) := dk_46 (dk_at dksX8_canServe_6 2 rfl rfl)
theorem dX8_canServe_146 : decode cX8_canServe 146 = .ok (.invokestatic 383, 3) := dk_184 1 127 (dk_at dksX8_canServe_6 3 rfl rfl)
theorem dX8_canServe_149 : decode cX8_canServe 149 = .ok (.ifCond .eq 7, 3) := dk_153 0 7 (dk_at dksX8_canServe_6 6 rfl rfl)
theorem dX8_canServe_152 : decode cX8_canServe 152 = .ok (.iconst 1, 1) := dk_4 (dk_at dksX8_canServe_6 9 rfl rfl)
theorem dX8_canServe_153 : decode cX8_canServe 153 = .ok (.goto 4, 3) := dk_167 0 4 (dk_at dksX8_canServe_6 10 rfl rfl)
theorem dX8_canServe_156 : decode cX8_canServe 156 = .ok (.iconst 0, 1) := dk_3 (dk_at dksX8_canServe_6 13 rfl rfl)
theorem dX8_canServe_157 : decode cX8_canServe 157 = .ok (.istore 5, 2) := dk_54 5 (dk_at dksX8_canServe_6 14 rfl rfl)
theorem dX8_canServe_159 : decode cX8_canServe 159 = .ok (.iinc 6 1, 3) := dk_132 6 1 (dk_at dksX8_canServe_6 16 rfl rfl)
theorem dX8_canServe_162 : decode cX8_canServe 162 = .ok (.goto (-97), 3) := dk_167 255 159 (dk_at dksX8_canServe_6 19 rfl rfl)
theorem dX8_canServe_165 : decode cX8_canServe 165 = .ok (.iload_n 3, 1) := dk_29 (dk_at dksX8_canServe_6 22 rfl rfl)
theorem dX8_canServe_166 : decode cX8_canServe 166 = .ok (.ifCond .eq 12, 3) := dk_153 0 12 (dk_at dksX8_canServe_7 0 rfl rfl)
theorem dX8_canServe_169 : decode cX8_canServe 169 = .ok (.iload 5, 2) := dk_21 5 (dk_at dksX8_canServe_7 3 rfl rfl)
theorem dX8_canServe_171 : decode cX8_canServe 171 = .ok (.ifCond .eq 7, 3) := dk_153 0 7 (dk_at dksX8_canServe_7 5 rfl rfl)
theorem dX8_canServe_174 : decode cX8_canServe 174 = .ok (.iconst 1, 1) := dk_4 (dk_at dksX8_canServe_7 8 rfl rfl)
theorem dX8_canServe_175 : decode cX8_canServe 175 = .ok (.goto 4, 3) := dk_167 0 4 (dk_at dksX8_canServe_7 9 rfl rfl)
theorem dX8_canServe_178 : decode cX8_canServe 178 = .ok (.iconst 0, 1) := dk_3 (dk_at dksX8_canServe_7 12 rfl rfl)
theorem dX8_canServe_179 : decode cX8_canServe 179 = .ok (.istore_n 3, 1) := dk_62 (dk_at dksX8_canServe_7 13 rfl rfl)
theorem dX8_canServe_180 : decode cX8_canServe 180 = .ok (.iinc 4 1, 3) := dk_132 4 1 (dk_at dksX8_canServe_7 14 rfl rfl)
theorem dX8_canServe_183 : decode cX8_canServe 183 = .ok (.goto (-139), 3) := dk_167 255 117 (dk_at dksX8_canServe_7 17 rfl rfl)
theorem dX8_canServe_186 : decode cX8_canServe 186 = .ok (.iload_n 3, 1) := dk_29 (dk_at dksX8_canServe_7 20 rfl rfl)
theorem dX8_canServe_187 : decode cX8_canServe 187 = .ok (.ireturn, 1) := dk_172 (dk_at dksX8_canServe_7 21 rfl rfl)
abbrev cX8_follows : ByteArray := prog_20_method_59_code
def yX8_follows : MethodName := ⟨RX8, "follows", "(IIII)Z"⟩
def dkwX8_follows_3 : List UInt8 := [4, 167, 0, 4, 3, 172]
abbrev dktX8_follows_3 : List UInt8 := dkwX8_follows_3 ++ []
def dkwX8_follows_2 : List UInt8 := [154, 0, 12, 29, 27, 164, 0, 7, 4, 167, 0, 4, 3, 172, 28, 26, 160, 0, 12, 29, 27, 160, 0, 7]
abbrev dktX8_follows_2 : List UInt8 := dkwX8_follows_2 ++ dktX8_follows_3
def dkwX8_follows_1 : List UInt8 := [4, 167, 0, 4, 3, 172, 26, 5, 160, 0, 28, 28, 5, 160, 0, 8, 29, 27, 162, 0, 12, 28]
abbrev dktX8_follows_1 : List UInt8 := dkwX8_follows_1 ++ dktX8_follows_2
def dkwX8_follows_0 : List UInt8 := [26, 4, 160, 0, 28, 28, 4, 160, 0, 8, 29, 27, 164, 0, 12, 28, 154, 0, 12, 29, 27, 162, 0, 7]
abbrev dktX8_follows_0 : List UInt8 := dkwX8_follows_0 ++ dktX8_follows_1
theorem dksX8_follows_0 : cX8_follows.data.toList.drop 0 = dktX8_follows_0 := by decide +kernel
theorem dksX8_follows_1 : cX8_follows.data.toList.drop 24 = dktX8_follows_1 := dk_seg dksX8_follows_0 24 rfl rfl
theorem dksX8_follows_2 : cX8_follows.data.toList.drop 46 = dktX8_follows_2 := dk_seg dksX8_follows_1 22 rfl rfl
theorem dksX8_follows_3 : cX8_follows.data.toList.drop 70 = dktX8_follows_3 := dk_seg dksX8_follows_2 24 rfl rfl
theorem dX8_follows_0 : decode cX8_follows 0 = .ok (.iload_n 0, 1) := dk_26 (dk_at dksX8_follows_0 0 rfl rfl)
theorem dX8_follows_1 : decode cX8_follows 1 = .ok (.iconst 1, 1) := dk_4 (dk_at dksX8_follows_0 1 rfl rfl)
theorem dX8_follows_2 : decode cX8_follows 2 = .ok (.if_icmp .ne 28, 3) := dk_160 0 28 (dk_at dksX8_follows_0 2 rfl rfl)
theorem dX8_follows_5 : decode cX8_follows 5 = .ok (.iload_n 2, 1) := dk_28 (dk_at dksX8_follows_0 5 rfl rfl)
theorem dX8_follows_6 : decode cX8_follows 6 = .ok (.iconst 1, 1) := dk_4 (dk_at dksX8_follows_0 6 rfl rfl)
theorem dX8_follows_7 : decode cX8_follows 7 = .ok (.if_icmp .ne 8, 3) := dk_160 0 8 (dk_at dksX8_follows_0 7 rfl rfl)
theorem dX8_follows_10 : decode cX8_follows 10 = .ok (.iload_n 3, 1) := dk_29 (dk_at dksX8_follows_0 10 rfl rfl)
theorem dX8_follows_11 : decode cX8_follows 11 = .ok (.iload_n 1, 1) := dk_27 (dk_at dksX8_follows_0 11 rfl rfl)
theorem dX8_follows_12 : decode cX8_follows 12 = .ok (.if_icmp .le 12, 3) := dk_164 0 12 (dk_at dksX8_follows_0 12 rfl rfl)
theorem dX8_follows_15 : decode cX8_follows 15 = .ok (.iload_n 2, 1) := dk_28 (dk_at dksX8_follows_0 15 rfl rfl)
theorem dX8_follows_16 : decode cX8_follows 16 = .ok (.ifCond .ne 12, 3) := dk_154 0 12 (dk_at dksX8_follows_0 16 rfl rfl)
theorem dX8_follows_19 : decode cX8_follows 19 = .ok (.iload_n 3, 1) := dk_29 (dk_at dksX8_follows_0 19 rfl rfl)
theorem dX8_follows_20 : decode cX8_follows 20 = .ok (.iload_n 1, 1) := dk_27 (dk_at dksX8_follows_0 20 rfl rfl)
theorem dX8_follows_21 : decode cX8_follows 21 = .ok (.if_icmp .ge 7, 3) := dk_162 0 7 (dk_at dksX8_follows_0 21 rfl rfl)
theorem dX8_follows_24 : decode cX8_follows 24 = .ok (.iconst 1, 1) := dk_4 (dk_at dksX8_follows_1 0 rfl rfl)
theorem dX8_follows_25 : decode cX8_follows 25 = .ok (.goto 4, 3) := dk_167 0 4 (dk_at dksX8_follows_1 1 rfl rfl)
theorem dX8_follows_28 : decode cX8_follows 28 = .ok (.iconst 0, 1) := dk_3 (dk_at dksX8_follows_1 4 rfl rfl)
theorem dX8_follows_29 : decode cX8_follows 29 = .ok (.ireturn, 1) := dk_172 (dk_at dksX8_follows_1 5 rfl rfl)
theorem dX8_follows_30 : decode cX8_follows 30 = .ok (.iload_n 0, 1) := dk_26 (dk_at dksX8_follows_1 6 rfl rfl)
theorem dX8_follows_31 : decode cX8_follows 31 = .ok (.iconst 2, 1) := dk_5 (dk_at dksX8_follows_1 7 rfl rfl)
theorem dX8_follows_32 : decode cX8_follows 32 = .ok (.if_icmp .ne 28, 3) := dk_160 0 28 (dk_at dksX8_follows_1 8 rfl rfl)
theorem dX8_follows_35 : decode cX8_follows 35 = .ok (.iload_n 2, 1) := dk_28 (dk_at dksX8_follows_1 11 rfl rfl)
theorem dX8_follows_36 : decode cX8_follows 36 = .ok (.iconst 2, 1) := dk_5 (dk_at dksX8_follows_1 12 rfl rfl)
theorem dX8_follows_37 : decode cX8_follows 37 = .ok (.if_icmp .ne 8, 3) := dk_160 0 8 (dk_at dksX8_follows_1 13 rfl rfl)
theorem dX8_follows_40 : decode cX8_follows 40 = .ok (.iload_n 3, 1) := dk_29 (dk_at dksX8_follows_1 16 rfl rfl)
theorem dX8_follows_41 : decode cX8_follows 41 = .ok (.iload_n 1, 1) := dk_27 (dk_at dksX8_follows_1 17 rfl rfl)
theorem dX8_follows_42 : decode cX8_follows 42 = .ok (.if_icmp .ge 12, 3) := dk_162 0 12 (dk_at dksX8_follows_1 18 rfl rfl)
theorem dX8_follows_45 : decode cX8_follows 45 = .ok (.iload_n 2, 1) := dk_28 (dk_at dksX8_follows_1 21 rfl rfl)
theorem dX8_follows_46 : decode cX8_follows 46 = .ok (.ifCond .ne 12, 3) := dk_154 0 12 (dk_at dksX8_follows_2 0 rfl rfl)
theorem dX8_follows_49 : decode cX8_follows 49 = .ok (.iload_n 3, 1) := dk_29 (dk_at dksX8_follows_2 3 rfl rfl)
theorem dX8_follows_50 : decode cX8_follows 50 = .ok (.iload_n 1, 1) := dk_27 (dk_at dksX8_follows_2 4 rfl rfl)
theorem dX8_follows_51 : decode cX8_follows 51 = .ok (.if_icmp .le 7, 3) := dk_164 0 7 (dk_at dksX8_follows_2 5 rfl rfl)
theorem dX8_follows_54 : decode cX8_follows 54 = .ok (.iconst 1, 1) := dk_4 (dk_at dksX8_follows_2 8 rfl rfl)
theorem dX8_follows_55 : decode cX8_follows 55 = .ok (.goto 4, 3) := dk_167 0 4 (dk_at dksX8_follows_2 9 rfl rfl)
theorem dX8_follows_58 : decode cX8_follows 58 = .ok (.iconst 0, 1) := dk_3 (dk_at dksX8_follows_2 12 rfl rfl)
theorem dX8_follows_59 : decode cX8_follows 59 = .ok (.ireturn, 1) := dk_172 (dk_at dksX8_follows_2 13 rfl rfl)
theorem dX8_follows_60 : decode cX8_follows 60 = .ok (.iload_n 2, 1) := dk_28 (dk_at dksX8_follows_2 14 rfl rfl)
theorem dX8_follows_61 : decode cX8_follows 61 = .ok (.iload_n 0, 1) := dk_26 (dk_at dksX8_follows_2 15 rfl rfl)
theorem dX8_follows_62 : decode cX8_follows 62 = .ok (.if_icmp .ne 12, 3) := dk_160 0 12 (dk_at dksX8_follows_2 16 rfl rfl)
theorem dX8_follows_65 : decode cX8_follows 65 = .ok (.iload_n 3, 1) := dk_29 (dk_at dksX8_follows_2 19 rfl rfl)
theorem dX8_follows_66 : decode cX8_follows 66 = .ok (.iload_n 1, 1) := dk_27 (dk_at dksX8_follows_2 20 rfl rfl)
theorem dX8_follows_67 : decode cX8_follows 67 = .ok (.if_icmp .ne 7, 3) := dk_160 0 7 (dk_at dksX8_follows_2 21 rfl rfl)
theorem dX8_follows_70 : decode cX8_follows 70 = .ok (.iconst 1, 1) := dk_4 (dk_at dksX8_follows_3 0 rfl rfl)
theorem dX8_follows_71 : decode cX8_follows 71 = .ok (.goto 4, 3) := dk_167 0 4 (dk_at dksX8_follows_3 1 rfl rfl)
theorem dX8_follows_74 : decode cX8_follows 74 = .ok (.iconst 0, 1) := dk_3 (dk_at dksX8_follows_3 4 rfl rfl)
theorem dX8_follows_75 : decode cX8_follows 75 = .ok (.ireturn, 1) := dk_172 (dk_at dksX8_follows_3 5 rfl rfl)
abbrev cX8_serves : ByteArray := prog_20_method_62_code
def yX8_serves : MethodName := ⟨RX8, "serves", "(II)V"⟩
def dkwX8_serves_5 : List UInt8 := [180, 0, 111, 27, 46, 79, 177]
abbrev dktX8_serves_5 : List UInt8 := dkwX8_serves_5 ++ []
def dkwX8_serves_4 : List UInt8 := [42, 180, 0, 153, 28, 42, 180, 0, 111, 27, 46, 2, 160, 0, 10, 42, 180, 0, 242, 167, 0, 9, 42]
abbrev dktX8_serves_4 : List UInt8 := dkwX8_serves_4 ++ dktX8_serves_5
def dkwX8_serves_3 : List UInt8 := [27, 104, 29, 96, 46, 79, 132, 3, 1, 167, 255, 225, 42, 180, 0, 150, 28, 42, 180, 0, 108, 27, 46, 79]
abbrev dktX8_serves_3 : List UInt8 := dkwX8_serves_3 ++ dktX8_serves_4
def dkwX8_serves_2 : List UInt8 := [3, 62, 29, 16, 48, 162, 0, 31, 42, 180, 0, 147, 16, 48, 28, 104, 29, 96, 42, 180, 0, 123, 16, 48]
abbrev dktX8_serves_2 : List UInt8 := dkwX8_serves_2 ++ dktX8_serves_3
def dkwX8_serves_1 : List UInt8 := [16, 12, 28, 104, 29, 96, 42, 180, 0, 120, 16, 12, 27, 104, 29, 96, 46, 79, 132, 3, 1, 167, 255, 225]
abbrev dktX8_serves_1 : List UInt8 := dkwX8_serves_1 ++ dktX8_serves_2
def dkwX8_serves_0 : List UInt8 := [42, 180, 0, 141, 28, 42, 180, 0, 117, 27, 46, 79, 3, 62, 29, 16, 12, 162, 0, 31, 42, 180, 0, 144]
abbrev dktX8_serves_0 : List UInt8 := dkwX8_serves_0 ++ dktX8_serves_1
theorem dksX8_serves_0 : cX8_serves.data.toList.drop 0 = dktX8_serves_0 := by decide +kernel
theorem dksX8_serves_1 : cX8_serves.data.toList.drop 24 = dktX8_serves_1 := dk_seg dksX8_serves_0 24 rfl rfl
theorem dksX8_serves_2 : cX8_serves.data.toList.drop 48 = dktX8_serves_2 := dk_seg dksX8_serves_1 24 rfl rfl
theorem dksX8_serves_3 : cX8_serves.data.toList.drop 72 = dktX8_serves_3 := dk_seg dksX8_serves_2 24 rfl rfl
theorem dksX8_serves_4 : cX8_serves.data.toList.drop 96 = dktX8_serves_4 := dk_seg dksX8_serves_3 24 rfl rfl
theorem dksX8_serves_5 : cX8_serves.data.toList.drop 119 = dktX8_serves_5 := dk_seg dksX8_serves_4 23 rfl rfl
theorem dX8_serves_0 : decode cX8_serves 0 = .ok (.aload_n 0, 1) := dk_42 (dk_at dksX8_serves_0 0 rfl rfl)
theorem dX8_serves_1 : decode cX8_serves 1 = .ok (.getfield 141, 3) := dk_180 0 141 (dk_at dksX8_serves_0 1 rfl rfl)
theorem dX8_serves_4 : decode cX8_serves 4 = .ok (.iload_n 2, 1) := dk_28 (dk_at dksX8_serves_0 4 rfl rfl)
theorem dX8_serves_5 : decode cX8_serves 5 = .ok (.aload_n 0, 1) := dk_42 (dk_at dksX8_serves_0 5 rfl rfl)
theorem dX8_serves_6 : decode cX8_serves 6 = .ok (.getfield 117, 3) := dk_180 0 117 (dk_at dksX8_serves_0 6 rfl rfl)
theorem dX8_serves_9 : decode cX8_serves 9 = .ok (.iload_n 1, 1) := dk_27 (dk_at dksX8_serves_0 9 rfl rfl)
theorem dX8_serves_10 : decode cX8_serves 10 = .ok (.iaload, 1) := dk_46 (dk_at dksX8_serves_0 10 rfl rfl)
theorem dX8_serves_11 : decode cX8_serves 11 = .ok (.iastore, 1) := dk_79 (dk_at dksX8_serves_0 11 rfl rfl)
theorem dX8_serves_12 : decode cX8_serves 12 = .ok (.iconst 0, 1) := dk_3 (dk_at dksX8_serves_0 12 rfl rfl)
theorem dX8_serves_13 : decode cX8_serves 13 = .ok (.istore_n 3, 1) := dk_62 (dk_at dksX8_serves_0 13 rfl rfl)
theorem dX8_serves_14 : decode cX8_serves 14 = .ok (.iload_n 3, 1) := dk_29 (dk_at dksX8_serves_0 14 rfl rfl)
theorem dX8_serves_15 : decode cX8_serves 15 = .ok (.bipush 12, 2) := dk_16 12 (dk_at dksX8_serves_0 15 rfl rfl)
theorem dX8_serves_17 : decode cX8_serves 17 = .ok (.if_icmp .ge 31, 3) := dk_162 0 31 (dk_at dksX8_serves_0 17 rfl rfl)
theorem dX8_serves_20 : decode cX8_serves 20 = .ok (.aload_n 0, 1) := dk_42 (dk_at dksX8_serves_0 20 rfl rfl)
theorem dX8_serves_21 : decode cX8_serves 21 = .ok (.getfield 144, 3) := dk_180 0 144 (dk_at dksX8_serves_0 21 rfl rfl)
theorem dX8_serves_24 : decode cX8_serves 24 = .ok (.bipush 12, 2) := dk_16 12 (dk_at dksX8_serves_1 0 rfl rfl)
theorem dX8_serves_26 : decode cX8_serves 26 = .ok (.iload_n 2, 1) := dk_28 (dk_at dksX8_serves_1 2 rfl rfl)
theorem dX8_serves_27 : decode cX8_serves 27 = .ok (.imul, 1) := dk_104 (dk_at dksX8_serves_1 3 rfl rfl)
theorem dX8_serves_28 : decode cX8_serves 28 = .ok (.iload_n 3, 1) := dk_29 (dk_at dksX8_serves_1 4 rfl rfl)
theorem dX8_serves_29 : decode cX8_serves 29 = .ok (.iadd, 1) := dk_96 (dk_at dksX8_serves_1 5 rfl rfl)
theorem dX8_serves_30 : decode cX8_serves 30 = .ok (.aload_n 0, 1) := dk_42 (dk_at dksX8_serves_1 6 rfl rfl)
theorem dX8_serves_31 : decode cX8_serves 31 = .ok (.getfield 120, 3) := dk_180 0 120 (dk_at dksX8_serves_1 7 rfl rfl)
theorem dX8_serves_34 : decode cX8_serves 34 = .ok (.bipush 12, 2) := dk_16 12 (dk_at dksX8_serves_1 10 rfl rfl)
theorem dX8_serves_36 : decode cX8_serves 36 = .ok (.iload_n 1, 1) := dk_27 (dk_at dksX8_serves_1 12 rfl rfl)
theorem dX8_serves_37 : decode cX8_serves 37 = .ok (.imul, 1) := dk_104 (dk_at dksX8_serves_1 13 rfl rfl)
theorem dX8_serves_38 : decode cX8_serves 38 = .ok (.iload_n 3, 1) := dk_29 (dk_at dksX8_serves_1 14 rfl rfl)
theorem dX8_serves_39 : decode cX8_serves 39 = .ok (.iadd, 1) := dk_96 (dk_at dksX8_serves_1 15 rfl rfl)
theorem dX8_serves_40 : decode cX8_serves 40 = .ok (.iaload, 1) := dk_46 (dk_at dksX8_serves_1 16 rfl rfl)
theorem dX8_serves_41 : decode cX8_serves 41 = .ok (.iastore, 1) := dk_79 (dk_at dksX8_serves_1 17 rfl rfl)
theorem dX8_serves_42 : decode cX8_serves 42 = .ok (.iinc 3 1, 3) := dk_132 3 1 (dk_at dksX8_serves_1 18 rfl rfl)
theorem dX8_serves_45 : decode cX8_serves 45 = .ok (.goto (-31), 3) := dk_167 255 225 (dk_at dksX8_serves_1 21 rfl rfl)
theorem dX8_serves_48 : decode cX8_serves 48 = .ok (.iconst 0, 1) := dk_3 (dk_at dksX8_serves_2 0 rfl rfl)
theorem dX8_serves_49 : decode cX8_serves 49 = .ok (.istore_n 3, 1) := dk_62 (dk_at dksX8_serves_2 1 rfl rfl)
theorem dX8_serves_50 : decode cX8_serves 50 = .ok (.iload_n 3, 1) := dk_29 (dk_at dksX8_serves_2 2 rfl rfl)
theorem dX8_serves_51 : decode cX8_serves 51 = .ok (.bipush 48, 2) := dk_16 48 (dk_at dksX8_serves_2 3 rfl rfl)
theorem dX8_serves_53 : decode cX8_serves 53 = .ok (.if_icmp .ge 31, 3) := dk_162 0 31 (dk_at dksX8_serves_2 5 rfl rfl)
theorem dX8_serves_56 : decode cX8_serves 56 = .ok (.aload_n 0, 1) := dk_42 (dk_at dksX8_serves_2 8 rfl rfl)
theorem dX8_serves_57 : decode cX8_serves 57 = .ok (.getfield 147, 3) := dk_180 0 147 (dk_at dksX8_serves_2 9 rfl rfl)
theorem dX8_serves_60 : decode cX8_serves 60 = .ok (.bipush 48, 2) := dk_16 48 (dk_at dksX8_serves_2 12 rfl rfl)
theorem dX8_serves_62 : decode cX8_serves 62 = .ok (.iload_n 2, 1) := dk_28 (dk_at dksX8_serves_2 14 rfl rfl)
theorem dX8_serves_63 : decode cX8_serves 63 = .ok (.imul, 1) := dk_104 (dk_at dksX8_serves_2 15 rfl rfl)
theorem dX8_serves_64 : decode cX8_serves 64 = .ok (.iload_n 3, 1) := dk_29 (dk_at dksX8_serves_2 16 rfl rfl)
theorem dX8_serves_65 : decode cX8_serves 65 = .ok (.iadd, 1) := dk_96 (dk_at dksX8_serves_2 17 rfl rfl)
theorem dX8_serves_66 : decode cX8_serves 66 = .ok (.aload_n 0, 1) := dk_42 (dk_at dksX8_serves_2 18 rfl rfl)
theorem dX8_serves_67 : decode cX8_serves 67 = .ok (.getfield 123, 3) := dk_180 0 123 (dk_at dksX8_serves_2 19 rfl rfl)
theorem dX8_serves_70 : decode cX8_serves 70 = .ok (.bipush 48, 2) := dk_16 48 (dk_at dksX8_serves_2 22 rfl rfl)
theorem dX8_serves_72 : decode cX8_serves 72 = .ok (.iload_n 1, 1) := dk_27 (dk_at dksX8_serves_3 0 rfl rfl)
theorem dX8_serves_73 : decode cX8_serves 73 = .ok (.imul, 1) := dk_104 (dk_at dksX8_serves_3 1 rfl rfl)
theorem dX8_serves_74 : decode cX8_serves 74 = .ok (.iload_n 3, 1) := dk_29 (dk_at dksX8_serves_3 2 rfl rfl)
theorem dX8_serves_75 : decode cX8_serves 75 = .ok (.iadd, 1) := dk_96 (dk_at dksX8_serves_3 3 rfl rfl)
theorem dX8_serves_76 : decode cX8_serves 76 = .ok (.iaload, 1) := dk_46 (dk_at dksX8_serves_3 4 rfl rfl)
theorem dX8_serves_77 : decode cX8_serves 77 = .ok (.iastore, 1) := dk_79 (dk_at dksX8_serves_3 5 rfl rfl)
theorem dX8_serves_78 : decode cX8_serves 78 = .ok (.iinc 3 1, 3) := dk_132 3 1 (dk_at dksX8_serves_3 6 rfl rfl)
theorem dX8_serves_81 : decode cX8_serves 81 = .ok (.goto (-31), 3) := dk_167 255 225 (dk_at dksX8_serves_3 9 rfl rfl)
theorem dX8_serves_84 : decode cX8_serves 84 = .ok (.aload_n 0, 1) := dk_42 (dk_at dksX8_serves_3 12 rfl rfl)
theorem dX8_serves_85 : decode cX8_serves 85 = .ok (.getfield 150, 3) := dk_180 0 150 (dk_at dksX8_serves_3 13 rfl rfl)
theorem dX8_serves_88 : decode cX8_serves 88 = .ok (.iload_n 2, 1) := dk_28 (dk_at dksX8_serves_3 16 rfl rfl)
theorem dX8_serves_89 : decode cX8_serves 89 = .ok (.aload_n 0, 1) := dk_42 (dk_at dksX8_serves_3 17 rfl rfl)
theorem dX8_serves_90 : decode cX8_serves 90 = .ok (.getfield 108, 3) := dk_180 0 108 (dk_at dksX8_serves_3 18 rfl rfl)
theorem dX8_serves_93 : decode cX8_serves 93 = .ok (.iload_n 1, 1) := dk_27 (dk_at dksX8_serves_3 21 rfl rfl)
theorem dX8_serves_94 : decode cX8_serves 94 = .ok (.iaload, 1) := dk_46 (dk_at dksX8_serves_3 22 rfl rfl)
theorem dX8_serves_95 : decode cX8_serves 95 = .ok (.iastore, 1) := dk_79 (dk_at dksX8_serves_3 23 rfl rfl)
theorem dX8_serves_96 : decode cX8_serves 96 = .ok (.aload_n 0, 1) := dk_42 (dk_at dksX8_serves_4 0 rfl rfl)
theorem dX8_serves_97 : decode cX8_serves 97 = .ok (.getfield 153, 3) := dk_180 0 153 (dk_at dksX8_serves_4 1 rfl rfl)
theorem dX8_serves_100 : decode cX8_serves 100 = .ok (.iload_n 2, 1) := dk_28 (dk_at dksX8_serves_4 4 rfl rfl)
theorem dX8_serves_101 : decode cX8_serves 101 = .ok (.aload_n 0, 1) := dk_42 (dk_at dksX8_serves_4 5 rfl rfl)
theorem dX8_serves_102 : decode cX8_serves 102 = .ok (.getfield 111, 3) := dk_180 0 111 (dk_at dksX8_serves_4 6 rfl rfl)
theorem dX8_serves_105 : decode cX8_serves 105 = .ok (.iload_n 1, 1) := dk_27 (dk_at dksX8_serves_4 9 rfl rfl)
theorem dX8_serves_106 : decode cX8_serves 106 = .ok (.iaload, 1) := dk_46 (dk_at dksX8_serves_4 10 rfl rfl)
theorem dX8_serves_107 : decode cX8_serves 107 = .ok (.iconst (-1), 1) := dk_2 (dk_at dksX8_serves_4 11 rfl rfl)
theorem dX8_serves_108 : decode cX8_serves 108 = .ok (.if_icmp .ne 10, 3) := dk_160 0 10 (dk_at dksX8_serves_4 12 rfl rfl)
theorem dX8_serves_111 : decode cX8_serves 111 = .ok (.aload_n 0, 1) := dk_42 (dk_at dksX8_serves_4 15 rfl rfl)
theorem dX8_serves_112 : decode cX8_serves 112 = .ok (.getfield 242, 3) := dk_180 0 242 (dk_at dksX8_serves_4 16 rfl rfl)
theorem dX8_serves_115 : decode cX8_serves 115 = .ok (.goto 9, 3) := dk_167 0 9 (dk_at dksX8_serves_4 19 rfl rfl)
theorem dX8_serves_118 : decode cX8_serves 118 = .ok (.aload_n 0, 1) := dk_42 (dk_at dksX8_serves_4 22 rfl rfl)
theorem dX8_serves_119 : decode cX8_serves 119 = .ok (.getfield 111, 3) := dk_180 0 111 (dk_at dksX8_serves_5 0 rfl rfl)
theorem dX8_serves_122 : decode cX8_serves 122 = .ok (.iload_n 1, 1) := dk_27 (dk_at dksX8_serves_5 3 rfl rfl)
theorem dX8_serves_123 : decode cX8_serves 123 = .ok (.iaload, 1) := dk_46 (dk_at dksX8_serves_5 4 rfl rfl)
theorem dX8_serves_124 : decode cX8_serves 124 = .ok (.iastore, 1) := dk_79 (dk_at dksX8_serves_5 5 rfl rfl)
theorem dX8_serves_125 : decode cX8_serves 125 = .ok (.return_, 1) := dk_177 (dk_at dksX8_serves_5 6 rfl rfl)
abbrev cX8_canBind : ByteArray := prog_20_method_67_code
def yX8_canBind : MethodName := ⟨RX8, "canBind", "(II)Z"⟩
def dkwX8_canBind_7 : List UInt8 := [182, 1, 137, 42, 180, 0, 56, 21, 6, 46, 104, 96, 162, 0, 7, 4, 167, 0, 4, 3, 172]
abbrev dktX8_canBind_7 : List UInt8 := dkwX8_canBind_7 ++ []
def dkwX8_canBind_6 : List UInt8 := [42, 180, 1, 140, 42, 180, 0, 56, 21, 6, 46, 104, 96, 42, 180, 0, 53, 21, 6, 46, 42, 27]
abbrev dktX8_canBind_6 : List UInt8 := dkwX8_canBind_6 ++ dktX8_canBind_7
def dkwX8_canBind_5 : List UInt8 := [180, 0, 71, 28, 46, 182, 1, 146, 42, 180, 1, 140, 6, 96, 7, 108, 42, 180, 0, 53, 21, 6, 46, 104]
abbrev dktX8_canBind_5 : List UInt8 := dkwX8_canBind_5 ++ dktX8_canBind_6
def dkwX8_canBind_4 : List UInt8 := [153, 0, 5, 3, 172, 42, 21, 5, 29, 153, 0, 12, 42, 180, 0, 77, 28, 46, 167, 0, 9, 42]
abbrev dktX8_canBind_4 : List UInt8 := dkwX8_canBind_4 ++ dktX8_canBind_5
def dkwX8_canBind_3 : List UInt8 := [21, 4, 3, 184, 1, 65, 153, 0, 19, 42, 42, 180, 0, 65, 21, 5, 46, 21, 6, 182, 1, 37]
abbrev dktX8_canBind_3 : List UInt8 := dkwX8_canBind_3 ++ dktX8_canBind_4
def dkwX8_canBind_2 : List UInt8 := [167, 0, 9, 42, 180, 0, 68, 28, 46, 54, 5, 42, 180, 0, 65, 27, 46, 184, 0, 220, 54, 6, 21, 6]
abbrev dktX8_canBind_2 : List UInt8 := dkwX8_canBind_2 ++ dktX8_canBind_3
def dkwX8_canBind_1 : List UInt8 := [28, 46, 167, 0, 9, 42, 180, 0, 77, 28, 46, 54, 4, 29, 153, 0, 12, 42, 180, 0, 74, 28, 46]
abbrev dktX8_canBind_1 : List UInt8 := dkwX8_canBind_1 ++ dktX8_canBind_2
def dkwX8_canBind_0 : List UInt8 := [42, 180, 0, 68, 28, 46, 27, 160, 0, 7, 4, 167, 0, 4, 3, 62, 29, 153, 0, 12, 42, 180, 0, 71]
abbrev dktX8_canBind_0 : List UInt8 := dkwX8_canBind_0 ++ dktX8_canBind_1
theorem dksX8_canBind_0 : cX8_canBind.data.toList.drop 0 = dktX8_canBind_0 := by decide +kernel
theorem dksX8_canBind_1 : cX8_canBind.data.toList.drop 24 = dktX8_canBind_1 := dk_seg dksX8_canBind_0 24 rfl rfl
theorem dksX8_canBind_2 : cX8_canBind.data.toList.drop 47 = dktX8_canBind_2 := dk_seg dksX8_canBind_1 23 rfl rfl
theorem dksX8_canBind_3 : cX8_canBind.data.toList.drop 71 = dktX8_canBind_3 := dk_seg dksX8_canBind_2 24 rfl rfl
theorem dksX8_canBind_4 : cX8_canBind.data.toList.drop 93 = dktX8_canBind_4 := dk_seg dksX8_canBind_3 22 rfl rfl
theorem dksX8_canBind_5 : cX8_canBind.data.toList.drop 115 = dktX8_canBind_5 := dk_seg dksX8_canBind_4 22 rfl rfl
theorem dksX8_canBind_6 : cX8_canBind.data.toList.drop 139 = dktX8_canBind_6 := dk_seg dksX8_canBind_5 24 rfl rfl
theorem dksX8_canBind_7 : cX8_canBind.data.toList.drop 161 = dktX8_canBind_7 := dk_seg dksX8_canBind_6 22 rfl rfl
theorem dX8_canBind_0 : decode cX8_canBind 0 = .ok (.aload_n 0, 1) := dk_42 (dk_at dksX8_canBind_0 0 rfl rfl)
theorem dX8_canBind_1 : decode cX8_canBind 1 = .ok (.getfield 68, 3) := dk_180 0 68 (dk_at dksX8_canBind_0 1 rfl rfl)
theorem dX8_canBind_4 : decode cX8_canBind 4 = .ok (.iload_n 2, 1) := dk_28 (dk_at dksX8_canBind_0 4 rfl rfl)
theorem dX8_canBind_5 : decode cX8_canBind 5 = .ok (.iaload, 1) := dk_46 (dk_at dksX8_canBind_0 5 rfl rfl)
theorem dX8_canBind_6 : decode cX8_canBind 6 = .ok (.iload_n 1, 1) := dk_27 (dk_at dksX8_canBind_0 6 rfl rfl)
theorem dX8_canBind_7 : decode cX8_canBind 7 = .ok (.if_icmp .ne 7, 3) := dk_160 0 7 (dk_at dksX8_canBind_0 7 rfl rfl)
theorem dX8_canBind_10 : decode cX8_canBind 10 = .ok (.iconst 1, 1) := dk_4 (dk_at dksX8_canBind_0 10 rfl rfl)
theorem dX8_canBind_11 : decode cX8_canBind 11 = .ok (.goto 4, 3) := dk_167 0 4 (dk_at dksX8_canBind_0 11 rfl rfl)
theorem dX8_canBind_14 : decode cX8_canBind 14 = .ok (.iconst 0, 1) := dk_3 (dk_at dksX8_canBind_0 14 rfl rfl)
theorem dX8_canBind_15 : decode cX8_canBind 15 = .ok (.istore_n 3, 1) := dk_62 (dk_at dksX8_canBind_0 15 rfl rfl)
theorem dX8_canBind_16 : decode cX8_canBind 16 = .ok (.iload_n 3, 1) := dk_29 (dk_at dksX8_canBind_0 16 rfl rfl)
theorem dX8_canBind_17 : decode cX8_canBind 17 = .ok (.ifCond .eq 12, 3) := dk_153 0 12 (dk_at dksX8_canBind_0 17 rfl rfl)
theorem dX8_canBind_20 : decode cX8_canBind 20 = .ok (.aload_n 0, 1) := dk_42 (dk_at dksX8_canBind_0 20 rfl rfl)
theorem dX8_canBind_21 : decode cX8_canBind 21 = .ok (.getfield 71, 3) := dk_180 0 71 (dk_at dksX8_canBind_0 21 rfl rfl)
theorem dX8_canBind_24 : decode cX8_canBind 24 = .ok (.iload_n 2, 1) := dk_28 (dk_at dksX8_canBind_1 0 rfl rfl)
theorem dX8_canBind_25 : decode cX8_canBind 25 = .ok (.iaload, 1) := dk_46 (dk_at dksX8_canBind_1 1 rfl rfl)
theorem dX8_canBind_26 : decode cX8_canBind 26 = .ok (.goto 9, 3) := dk_167 0 9 (dk_at dksX8_canBind_1 2 rfl rfl)
theorem dX8_canBind_29 : decode cX8_canBind 29 = .ok (.aload_n 0, 1) := dk_42 (dk_at dksX8_canBind_1 5 rfl rfl)
theorem dX8_canBind_30 : decode cX8_canBind 30 = .ok (.getfield 77, 3) := dk_180 0 77 (dk_at dksX8_canBind_1 6 rfl rfl)
theorem dX8_canBind_33 : decode cX8_canBind 33 = .ok (.iload_n 2, 1) := dk_28 (dk_at dksX8_canBind_1 9 rfl rfl)
theorem dX8_canBind_34 : decode cX8_canBind 34 = .ok (.iaload, 1) := dk_46 (dk_at dksX8_canBind_1 10 rfl rfl)
theorem dX8_canBind_35 : decode cX8_canBind 35 = .ok (.istore 4, 2) := dk_54 4 (dk_at dksX8_canBind_1 11 rfl rfl)
theorem dX8_canBind_37 : decode cX8_canBind 37 = .ok (.iload_n 3, 1) := dk_29 (dk_at dksX8_canBind_1 13 rfl rfl)
theorem dX8_canBind_38 : decode cX8_canBind 38 = .ok (.ifCond .eq 12, 3) := dk_153 0 12 (dk_at dksX8_canBind_1 14 rfl rfl)
theorem dX8_canBind_41 : decode cX8_canBind 41 = .ok (.aload_n 0, 1) := dk_42 (dk_at dksX8_canBind_1 17 rfl rfl)
theorem dX8_canBind_42 : decode cX8_canBind 42 = .ok (.getfield 74, 3) := dk_180 0 74 (dk_at dksX8_canBind_1 18 rfl rfl)
theorem dX8_canBind_45 : decode cX8_canBind 45 = .ok (.iload_n 2, 1) := dk_28 (dk_at dksX8_canBind_1 21 rfl rfl)
theorem dX8_canBind_46 : decode cX8_canBind 46 = .ok (.iaload, 1) := dk_46 (dk_at dksX8_canBind_1 22 rfl rfl)
theorem dX8_canBind_47 : decode cX8_canBind 47 = .ok (.goto 9, 3) := dk_167 0 9 (dk_at dksX8_canBind_2 0 rfl rfl)
theorem dX8_canBind_50 : decode cX8_canBind 50 = .ok (.aload_n 0, 1) := dk_42 (dk_at dksX8_canBind_2 3 rfl rfl)
theorem dX8_canBind_51 : decode cX8_canBind 51 = .ok (.getfield 68, 3) := dk_180 0 68 (dk_at dksX8_canBind_2 4 rfl rfl)
theorem dX8_canBind_54 : decode cX8_canBind 54 = .ok (.iload_n 2, 1) := dk_28 (dk_at dksX8_canBind_2 7 rfl rfl)
theorem dX8_canBind_55 : decode cX8_canBind 55 = .ok (.iaload, 1) := dk_46 (dk_at dksX8_canBind_2 8 rfl rfl)
theorem dX8_canBind_56 : decode cX8_canBind 56 = .ok (.istore 5, 2) := dk_54 5 (dk_at dksX8_canBind_2 9 rfl rfl)
theorem dX8_canBind_58 : decode cX8_canBind 58 = .ok (.aload_n 0, 1) := dk_42 (dk_at dksX8_canBind_2 11 rfl rfl)
theorem dX8_canBind_59 : decode cX8_canBind 59 = .ok (.getfield 65, 3) := dk_180 0 65 (dk_at dksX8_canBind_2 12 rfl rfl)
theorem dX8_canBind_62 : decode cX8_canBind 62 = .ok (.iload_n 1, 1) := dk_27 (dk_at dksX8_canBind_2 15 rfl rfl)
theorem dX8_canBind_63 : decode cX8_canBind 63 = .ok (.iaload, 1) := dk_46 (dk_at dksX8_canBind_2 16 rfl rfl)
theorem dX8_canBind_64 : decode cX8_canBind 64 = .ok (.invokestatic 220, 3) := dk_184 0 220 (dk_at dksX8_canBind_2 17 rfl rfl)
theorem dX8_canBind_67 : decode cX8_canBind 67 = .ok (.istore 6, 2) := dk_54 6 (dk_at dksX8_canBind_2 20 rfl rfl)
theorem dX8_canBind_69 : decode cX8_canBind 69 = .ok (.iload 6, 2) := dk_21 6 (dk_at dksX8_canBind_2 22 rfl rfl)
theorem dX8_canBind_71 : decode cX8_canBind 71 = .ok (.iload 4, 2) := dk_21 4 (dk_at dksX8_canBind_3 0 rfl rfl)
theorem dX8_canBind_73 : decode cX8_canBind 73 = .ok (.iconst 0, 1) := dk_3 (dk_at dksX8_canBind_3 2 rfl rfl)
theorem dX8_canBind_74 : decode cX8_canBind 74 = .ok (.invokestatic 321, 3) := dk_184 1 65 (dk_at dksX8_canBind_3 3 rfl rfl)
theorem dX8_canBind_77 : decode cX8_canBind 77 = .ok (.ifCond .eq 19, 3) := dk_153 0 19 (dk_at dksX8_canBind_3 6 rfl rfl)
theorem dX8_canBind_80 : decode cX8_canBind 80 = .ok (.aload_n 0, 1) := dk_42 (dk_at dksX8_canBind_3 9 rfl rfl)
theorem dX8_canBind_81 : decode cX8_canBind 81 = .ok (.aload_n 0, 1) := dk_42 (dk_at dksX8_canBind_3 10 rfl rfl)
theorem dX8_canBind_82 : decode cX8_canBind 82 = .ok (.getfield 65, 3) := dk_180 0 65 (dk_at dksX8_canBind_3 11 rfl rfl)
theorem dX8_canBind_85 : decode cX8_canBind 85 = .ok (.iload 5, 2) := dk_21 5 (dk_at dksX8_canBind_3 14 rfl rfl)
theorem dX8_canBind_87 : decode cX8_canBind 87 = .ok (.iaload, 1) := dk_46 (dk_at dksX8_canBind_3 16 rfl rfl)
theorem dX8_canBind_88 : decode cX8_canBind 88 = .ok (.iload 6, 2) := dk_21 6 (dk_at dksX8_canBind_3 17 rfl rfl)
theorem dX8_canBind_90 : decode cX8_canBind 90 = .ok (.invokevirtual 293, 3) := dk_182 1 37 (dk_at dksX8_canBind_3 19 rfl rfl)
theorem dX8_canBind_93 : decode cX8_canBind 93 = .ok (.ifCond .eq 5, 3) := dk_153 0 5 (dk_at dksX8_canBind_4 0 rfl rfl)
theorem dX8_canBind_96 : decode cX8_canBind 96 = .ok (.iconst 0, 1) := dk_3 (dk_at dksX8_canBind_4 3 rfl rfl)
theorem dX8_canBind_97 : decode cX8_canBind 97 = .ok (.ireturn, 1) := dk_172 (dk_at dksX8_canBind_4 4 rfl rfl)
theorem dX8_canBind_98 : decode cX8_canBind 98 = .ok (.aload_n 0, 1) := dk_42 (dk_at dksX8_canBind_4 5 rfl rfl)
theorem dX8_canBind_99 : decode cX8_canBind 99 = .ok (.iload 5, 2) := dk_21 5 (dk_at dksX8_canBind_4 6 rfl rfl)
theorem dX8_canBind_101 : decode cX8_canBind 101 = .ok (.iload_n 3, 1) := dk_29 (dk_at dksX8_canBind_4 8 rfl rfl)
theorem dX8_canBind_102 : decode cX8_canBind 102 = .ok (.ifCond .eq 12, 3) := dk_153 0 12 (dk_at dksX8_canBind_4 9 rfl rfl)
theorem dX8_canBind_105 : decode cX8_canBind 105 = .ok (.aload_n 0, 1) := dk_42 (dk_at dksX8_canBind_4 12 rfl rfl)
theorem dX8_canBind_106 : decode cX8_canBind 106 = .ok (.getfield 77, 3) := dk_180 0 77 (dk_at dksX8_canBind_4 13 rfl rfl)
theorem dX8_canBind_109 : decode cX8_canBind 109 = .ok (.iload_n 2, 1) := dk_28 (dk_at dksX8_canBind_4 16 rfl rfl)
theorem dX8_canBind_110 : decode cX8_canBind 110 = .ok (.iaload, 1) := dk_46 (dk_at dksX8_canBind_4 17 rfl rfl)
theorem dX8_canBind_111 : decode cX8_canBind 111 = .ok (.goto 9, 3) := dk_167 0 9 (dk_at dksX8_canBind_4 18 rfl rfl)
theorem dX8_canBind_114 : decode cX8_canBind 114 = .ok (.aload_n 0, 1) := dk_42 (dk_at dksX8_canBind_4 21 rfl rfl)
theorem dX8_canBind_115 : decode cX8_canBind 115 = .ok (.getfield 71, 3) := dk_180 0 71 (dk_at dksX8_canBind_5 0 rfl rfl)
theorem dX8_canBind_118 : decode cX8_canBind 118 = .ok (.iload_n 2, 1) := dk_28 (dk_at dksX8_canBind_5 3 rfl rfl)
theorem dX8_canBind_119 : decode cX8_canBind 119 = .ok (.iaload, 1) := dk_46 (dk_at dksX8_canBind_5 4 rfl rfl)
theorem dX8_canBind_120 : decode cX8_canBind 120 = .ok (.invokevirtual 402, 3) := dk_182 1 146 (dk_at dksX8_canBind_5 5 rfl rfl)
theorem dX8_canBind_123 : decode cX8_canBind 123 = .ok (.aload_n 0, 1) := dk_42 (dk_at dksX8_canBind_5 8 rfl rfl)
theorem dX8_canBind_124 : decode cX8_canBind 124 = .ok (.getfield 396, 3) := dk_180 1 140 (dk_at dksX8_canBind_5 9 rfl rfl)
theorem dX8_canBind_127 : decode cX8_canBind 127 = .ok (.iconst 3, 1) := dk_6 (dk_at dksX8_canBind_5 12 rfl rfl)
theorem dX8_canBind_128 : decode cX8_canBind 128 = .ok (.iadd, 1) := dk_96 (dk_at dksX8_canBind_5 13 rfl rfl)
theorem dX8_canBind_129 : decode cX8_canBind 129 = .ok (.iconst 4, 1) := dk_7 (dk_at dksX8_canBind_5 14 rfl rfl)
theorem dX8_canBind_130 : decode cX8_canBind 130 = .ok (.idiv, 1) := dk_108 (dk_at dksX8_canBind_5 15 rfl rfl)
theorem dX8_canBind_131 : decode cX8_canBind 131 = .ok (.aload_n 0, 1) := dk_42 (dk_at dksX8_canBind_5 16 rfl rfl)
theorem dX8_canBind_132 : decode cX8_canBind 132 = .ok (.getfield 53, 3) := dk_180 0 53 (dk_at dksX8_canBind_5 17 rfl rfl)
theorem dX8_canBind_135 : decode cX8_canBind 135 = .ok (.iload 6, 2) := dk_21 6 (dk_at dksX8_canBind_5 20 rfl rfl)
theorem dX8_canBind_137 : decode cX8_canBind 137 = .ok (.iaload, 1) := dk_46 (dk_at dksX8_canBind_5 22 rfl rfl)
theorem dX8_canBind_138 : decode cX8_canBind 138 = .ok (.imul, 1) := dk_104 (dk_at dksX8_canBind_5 23 rfl rfl)
theorem dX8_canBind_139 : decode cX8_canBind 139 = .ok (.aload_n 0, 1) := dk_42 (dk_at dksX8_canBind_6 0 rfl rfl)
theorem dX8_canBind_140 : decode cX8_canBind 140 = .ok (.getfield 396, 3) := dk_180 1 140 (dk_at dksX8_canBind_6 1 rfl rfl)
theorem dX8_canBind_143 : decode cX8_canBind 143 = .ok (.aload_n 0, 1) := dk_42 (dk_at dksX8_canBind_6 4 rfl rfl)
theorem dX8_canBind_144 : decode cX8_canBind 144 = .ok (.getfield 56, 3) := dk_180 0 56 (dk_at dksX8_canBind_6 5 rfl rfl)
theorem dX8_canBind_147 : decode cX8_canBind 147 = .ok (.iload 6, 2) := dk_21 6 (dk_at dksX8_canBind_6 8 rfl rfl)
theorem dX8_canBind_149 : decode cX8_canBind 149 = .ok (.iaload, 1) := dk_46 (dk_at dksX8_canBind_6 10 rfl rfl)
theorem dX8_canBind_150 : decode cX8_canBind 150 = .ok (.imul, 1) := dk_104 (dk_at dksX8_canBind_6 11 rfl rfl)
theorem dX8_canBind_151 : decode cX8_canBind 151 = .ok (.iadd, 1) := dk_96 (dk_at dksX8_canBind_6 12 rfl rfl)
theorem dX8_canBind_152 : decode cX8_canBind 152 = .ok (.aload_n 0, 1) := dk_42 (dk_at dksX8_canBind_6 13 rfl rfl)
theorem dX8_canBind_153 : decode cX8_canBind 153 = .ok (.getfield 53, 3) := dk_180 0 53 (dk_at dksX8_canBind_6 14 rfl rfl)
theorem dX8_canBind_156 : decode cX8_canBind 156 = .ok (.iload 6, 2) := dk_21 6 (dk_at dksX8_canBind_6 17 rfl rfl)
theorem dX8_canBind_158 : decode cX8_canBind 158 = .ok (.iaload, 1) := dk_46 (dk_at dksX8_canBind_6 19 rfl rfl)
theorem dX8_canBind_159 : decode cX8_canBind 159 = .ok (.aload_n 0, 1) := dk_42 (dk_at dksX8_canBind_6 20 rfl rfl)
theorem dX8_canBind_160 : decode cX8_canBind 160 = .ok (.iload_n 1, 1) := dk_27 (dk_at dksX8_canBind_6 21 rfl rfl)
theorem dX8_canBind_161 : decode cX8_canBind 161 = .ok (.invokevirtual 393, 3) := dk_182 1 137 (dk_at dksX8_canBind_7 0 rfl rfl)
theorem dX8_canBind_164 : decode cX8_canBind 164 = .ok (.aload_n 0, 1) := dk_42 (dk_at dksX8_canBind_7 3 rfl rfl)
theorem dX8_canBind_165 : decode cX8_canBind 165 = .ok (.getfield 56, 3) := dk_180 0 56 (dk_at dksX8_canBind_7 4 rfl rfl)
theorem dX8_canBind_168 : decode cX8_canBind 168 = .ok (.iload 6, 2) := dk_21 6 (dk_at dksX8_canBind_7 7 rfl rfl)
theorem dX8_canBind_170 : decode cX8_canBind 170 = .ok (.iaload, 1) := dk_46 (dk_at dksX8_canBind_7 9 rfl rfl)
theorem dX8_canBind_171 : decode cX8_canBind 171 = .ok (.imul, 1) := dk_104 (dk_at dksX8_canBind_7 10 rfl rfl)
theorem dX8_canBind_172 : decode cX8_canBind 172 = .ok (.iadd, 1) := dk_96 (dk_at dksX8_canBind_7 11 rfl rfl)
theorem dX8_canBind_173 : decode cX8_canBind 173 = .ok (.if_icmp .ge 7, 3) := dk_162 0 7 (dk_at dksX8_canBind_7 12 rfl rfl)
theorem dX8_canBind_176 : decode cX8_canBind 176 = .ok (.iconst 1, 1) := dk_4 (dk_at dksX8_canBind_7 15 rfl rfl)
theorem dX8_canBind_177 : decode cX8_canBind 177 = .ok (.goto 4, 3) := dk_167 0 4 (dk_at dksX8_canBind_7 16 rfl rfl)
theorem dX8_canBind_180 : decode cX8_canBind 180 = .ok (.iconst 0, 1) := dk_3 (dk_at dksX8_canBind_7 19 rfl rfl)
theorem dX8_canBind_181 : decode cX8_canBind 181 = .ok (.ireturn, 1) := dk_172 (dk_at dksX8_canBind_7 20 rfl rfl)
abbrev cX8_laysKeys : ByteArray := prog_20_method_66_code
def yX8_laysKeys : MethodName := ⟨RX8, "laysKeys", "(II)V"⟩
def dkwX8_laysKeys_5 : List UInt8 := [21, 4, 79, 42, 89, 180, 1, 140, 4, 96, 181, 1, 140, 132, 3, 1, 167, 255, 129, 177]
abbrev dktX8_laysKeys_5 : List UInt8 := dkwX8_laysKeys_5 ++ []
def dkwX8_laysKeys_4 : List UInt8 := [21, 5, 42, 180, 0, 156, 21, 5, 4, 100, 46, 79, 132, 5, 255, 167, 255, 218, 42, 180, 0, 156, 21, 5]
abbrev dktX8_laysKeys_4 : List UInt8 := dkwX8_laysKeys_4 ++ dktX8_laysKeys_5
def dkwX8_laysKeys_3 : List UInt8 := [21, 5, 158, 0, 39, 42, 180, 0, 156, 21, 5, 4, 100, 46, 21, 4, 164, 0, 25, 42, 180, 0, 156]
abbrev dktX8_laysKeys_3 : List UInt8 := dkwX8_laysKeys_3 ++ dktX8_laysKeys_4
def dkwX8_laysKeys_2 : List UInt8 := [153, 0, 83, 42, 21, 4, 3, 42, 180, 1, 140, 182, 1, 102, 154, 0, 69, 42, 180, 1, 140, 54, 5]
abbrev dktX8_laysKeys_2 : List UInt8 := dkwX8_laysKeys_2 ++ dktX8_laysKeys_3
def dkwX8_laysKeys_1 : List UInt8 := [27, 104, 29, 96, 104, 28, 96, 46, 54, 4, 21, 4, 184, 0, 228, 153, 0, 92, 42, 27, 29, 182, 1, 143]
abbrev dktX8_laysKeys_1 : List UInt8 := dkwX8_laysKeys_1 ++ dktX8_laysKeys_2
def dkwX8_laysKeys_0 : List UInt8 := [42, 3, 181, 1, 140, 3, 62, 29, 42, 180, 0, 141, 27, 46, 162, 0, 123, 42, 180, 0, 147, 7, 16, 12]
abbrev dktX8_laysKeys_0 : List UInt8 := dkwX8_laysKeys_0 ++ dktX8_laysKeys_1
theorem dksX8_laysKeys_0 : cX8_laysKeys.data.toList.drop 0 = dktX8_laysKeys_0 := by decide +kernel
theorem dksX8_laysKeys_1 : cX8_laysKeys.data.toList.drop 24 = dktX8_laysKeys_1 := dk_seg dksX8_laysKeys_0 24 rfl rfl
theorem dksX8_laysKeys_2 : cX8_laysKeys.data.toList.drop 48 = dktX8_laysKeys_2 := dk_seg dksX8_laysKeys_1 24 rfl rfl
theorem dksX8_laysKeys_3 : cX8_laysKeys.data.toList.drop 71 = dktX8_laysKeys_3 := dk_seg dksX8_laysKeys_2 23 rfl rfl
theorem dksX8_laysKeys_4 : cX8_laysKeys.data.toList.drop 94 = dktX8_laysKeys_4 := dk_seg dksX8_laysKeys_3 23 rfl rfl
theorem dksX8_laysKeys_5 : cX8_laysKeys.data.toList.drop 118 = dktX8_laysKeys_5 := dk_seg dksX8_laysKeys_4 24 rfl rfl
theorem dX8_laysKeys_0 : decode cX8_laysKeys 0 = .ok (.aload_n 0, 1) := dk_42 (dk_at dksX8_laysKeys_0 0 rfl rfl)
theorem dX8_laysKeys_1 : decode cX8_laysKeys 1 = .ok (.iconst 0, 1) := dk_3 (dk_at dksX8_laysKeys_0 1 rfl rfl)
theorem dX8_laysKeys_2 : decode cX8_laysKeys 2 = .ok (.putfield 396, 3) := dk_181 1 140 (dk_at dksX8_laysKeys_0 2 rfl rfl)
theorem dX8_laysKeys_5 : decode cX8_laysKeys 5 = .ok (.iconst 0, 1) := dk_3 (dk_at dksX8_laysKeys_0 5 rfl rfl)
theorem dX8_laysKeys_6 : decode cX8_laysKeys 6 = .ok (.istore_n 3, 1) := dk_62 (dk_at dksX8_laysKeys_0 6 rfl rfl)
theorem dX8_laysKeys_7 : decode cX8_laysKeys 7 = .ok (.iload_n 3, 1) := dk_29 (dk_at dksX8_laysKeys_0 7 rfl rfl)
theorem dX8_laysKeys_8 : decode cX8_laysKeys 8 = .ok (.aload_n 0, 1) := dk_42 (dk_at dksX8_laysKeys_0 8 rfl rfl)
theorem dX8_laysKeys_9 : decode cX8_laysKeys 9 = .ok (.getfield 141, 3) := dk_180 0 141 (dk_at dksX8_laysKeys_0 9 rfl rfl)
theorem dX8_laysKeys_12 : decode cX8_laysKeys 12 = .ok (.iload_n 1, 1) := dk_27 (dk_at dksX8_laysKeys_0 12 rfl rfl)
theorem dX8_laysKeys_13 : decode cX8_laysKeys 13 = .ok (.iaload, 1) := dk_46 (dk_at dksX8_laysKeys_0 13 rfl rfl)
theorem dX8_laysKeys_14 : decode cX8_laysKeys 14 = .ok (.if_icmp .ge 123, 3) := dk_162 0 123 (dk_at dksX8_laysKeys_0 14 rfl rfl)
theorem dX8_laysKeys_17 : decode cX8_laysKeys 17 = .ok (.aload_n 0, 1) := dk_42 (dk_at dksX8_laysKeys_0 17 rfl rfl)
theorem dX8_laysKeys_18 : decode cX8_laysKeys 18 = .ok (.getfield 147, 3) := dk_180 0 147 (dk_at dksX8_laysKeys_0 18 rfl rfl)
theorem dX8_laysKeys_21 : decode cX8_laysKeys 21 = .ok (.iconst 4, 1) := dk_7 (dk_at dksX8_laysKeys_0 21 rfl rfl)
theorem dX8_laysKeys_22 : decode cX8_laysKeys 22 = .ok (.bipush 12, 2) := dk_16 12 (dk_at dksX8_laysKeys_0 22 rfl rfl)
theorem dX8_laysKeys_24 : decode cX8_laysKeys 24 = .ok (.iload_n 1, 1) := dk_27 (dk_at dksX8_laysKeys_1 0 rfl rfl)
theorem dX8_laysKeys_25 : decode cX8_laysKeys 25 = .ok (.imul, 1) := dk_104 (dk_at dksX8_laysKeys_1 1 rfl rfl)
theorem dX8_laysKeys_26 : decode cX8_laysKeys 26 = .ok (.iload_n 3, 1) := dk_29 (dk_at dksX8_laysKeys_1 2 rfl rfl)
theorem dX8_laysKeys_27 : decode cX8_laysKeys 27 = .ok (.iadd, 1) := dk_96 (dk_at dksX8_laysKeys_1 3 rfl rfl)
theorem dX8_laysKeys_28 : decode cX8_laysKeys 28 = .ok (.imul, 1) := dk_104 (dk_at dksX8_laysKeys_1 4 rfl rfl)
theorem dX8_laysKeys_29 : decode cX8_laysKeys 29 = .ok (.iload_n 2, 1) := dk_28 (dk_at dksX8_laysKeys_1 5 rfl rfl)
theorem dX8_laysKeys_30 : decode cX8_laysKeys 30 = .ok (.iadd, 1) := dk_96 (dk_at dksX8_laysKeys_1 6 rfl rfl)
theorem dX8_laysKeys_31 : decode cX8_laysKeys 31 = .ok (.iaload, 1) := dk_46 (dk_at dksX8_laysKeys_1 7 rfl rfl)
theorem dX8_laysKeys_32 : decode cX8_laysKeys 32 = .ok (.istore 4, 2) := dk_54 4 (dk_at dksX8_laysKeys_1 8 rfl rfl)
theorem dX8_laysKeys_34 : decode cX8_laysKeys 34 = .ok (.iload 4, 2) := dk_21 4 (dk_at dksX8_laysKeys_1 10 rfl rfl)
theorem dX8_laysKeys_36 : decode cX8_laysKeys 36 = .ok (.invokestatic 228, 3) := dk_184 0 228 (dk_at dksX8_laysKeys_1 12 rfl rfl)
theorem dX8_laysKeys_39 : decode cX8_laysKeys 39 = .ok (.ifCond .eq 92, 3) := dk_153 0 92 (dk_at dksX8_laysKeys_1 15 rfl rfl)
theorem dX8_laysKeys_42 : decode cX8_laysKeys 42 = .ok (.aload_n 0, 1) := dk_42 (dk_at dksX8_laysKeys_1 18 rfl rfl)
theorem dX8_laysKeys_43 : decode cX8_laysKeys 43 = .ok (.iload_n 1, 1) := dk_27 (dk_at dksX8_laysKeys_1 19 rfl rfl)
theorem dX8_laysKeys_44 : decode cX8_laysKeys 44 = .ok (.iload_n 3, 1) := dk_29 (dk_at dksX8_laysKeys_1 20 rfl rfl)
theorem dX8_laysKeys_45 : decode cX8_laysKeys 45 = .ok (.invokevirtual 399, 3) := dk_182 1 143 (dk_at dksX8_laysKeys_1 21 rfl rfl)
theorem dX8_laysKeys_48 : decode cX8_laysKeys 48 = .ok (.ifCond .eq 83, 3) := dk_153 0 83 (dk_at dksX8_laysKeys_2 0 rfl rfl)
theorem dX8_laysKeys_51 : decode cX8_laysKeys 51 = .ok (.aload_n 0, 1) := dk_42 (dk_at dksX8_laysKeys_2 3 rfl rfl)
theorem dX8_laysKeys_52 : decode cX8_laysKeys 52 = .ok (.iload 4, 2) := dk_21 4 (dk_at dksX8_laysKeys_2 4 rfl rfl)
theorem dX8_laysKeys_54 : decode cX8_laysKeys 54 = .ok (.iconst 0, 1) := dk_3 (dk_at dksX8_laysKeys_2 6 rfl rfl)
theorem dX8_laysKeys_55 : decode cX8_laysKeys 55 = .ok (.aload_n 0, 1) := dk_42 (dk_at dksX8_laysKeys_2 7 rfl rfl)
theorem dX8_laysKeys_56 : decode cX8_laysKeys 56 = .ok (.getfield 396, 3) := dk_180 1 140 (dk_at dksX8_laysKeys_2 8 rfl rfl)
theorem dX8_laysKeys_59 : decode cX8_laysKeys 59 = .ok (.invokevirtual 358, 3) := dk_182 1 102 (dk_at dksX8_laysKeys_2 11 rfl rfl)
theorem dX8_laysKeys_62 : decode cX8_laysKeys 62 = .ok (.ifCond .ne 69, 3) := dk_154 0 69 (dk_at dksX8_laysKeys_2 14 rfl rfl)
theorem dX8_laysKeys_65 : decode cX8_laysKeys 65 = .ok (.aload_n 0, 1) := dk_42 (dk_at dksX8_laysKeys_2 17 rfl rfl)
theorem dX8_laysKeys_66 : decode cX8_laysKeys 66 = .ok (.getfield 396, 3) := dk_180 1 140 (dk_at dksX8_laysKeys_2 18 rfl rfl)
theorem dX8_laysKeys_69 : decode cX8_laysKeys 69 = .ok (.istore 5, 2) := dk_54 5 (dk_at dksX8_laysKeys_2 21 rfl rfl)
theorem dX8_laysKeys_71 : decode cX8_laysKeys 71 = .ok (.iload 5, 2) := dk_21 5 (dk_at dksX8_laysKeys_3 0 rfl rfl)
theorem dX8_laysKeys_73 : decode cX8_laysKeys 73 = .ok (.ifCond .le 39, 3) := dk_158 0 39 (dk_at dksX8_laysKeys_3 2 rfl rfl)
theorem dX8_laysKeys_76 : decode cX8_laysKeys 76 = .ok (.aload_n 0, 1) := dk_42 (dk_at dksX8_laysKeys_3 5 rfl rfl)
theorem dX8_laysKeys_77 : decode cX8_laysKeys 77 = .ok (.getfield 156, 3) := dk_180 0 156 (dk_at dksX8_laysKeys_3 6 rfl rfl)
theorem dX8_laysKeys_80 : decode cX8_laysKeys 80 = .ok (.iload 5, 2) := dk_21 5 (dk_at dksX8_laysKeys_3 9 rfl rfl)
theorem dX8_laysKeys_82 : decode cX8_laysKeys 82 = .ok (.iconst 1, 1) := dk_4 (dk_at dksX8_laysKeys_3 11 rfl rfl)
theorem dX8_laysKeys_83 : decode cX8_laysKeys 83 = .ok (.isub, 1) := dk_100 (dk_at dksX8_laysKeys_3 12 rfl rfl)
theorem dX8_laysKeys_84 : decode cX8_laysKeys 84 = .ok (.iaload, 1) := dk_46 (dk_at dksX8_laysKeys_3 13 rfl rfl)
theorem dX8_laysKeys_85 : decode cX8_laysKeys 85 = .ok (.iload 4, 2) := dk_21 4 (dk_at dksX8_laysKeys_3 14 rfl rfl)
theorem dX8_laysKeys_87 : decode cX8_laysKeys 87 = .ok (.if_icmp .le 25, 3) := dk_164 0 25 (dk_at dksX8_laysKeys_3 16 rfl rfl)
theorem dX8_laysKeys_90 : decode cX8_laysKeys 90 = .ok (.aload_n 0, 1) := dk_42 (dk_at dksX8_laysKeys_3 19 rfl rfl)
theorem dX8_laysKeys_91 : decode cX8_laysKeys 91 = .ok (.getfield 156, 3) := dk_180 0 156 (dk_at dksX8_laysKeys_3 20 rfl rfl)
theorem dX8_laysKeys_94 : decode cX8_laysKeys 94 = .ok (.iload 5, 2) := dk_21 5 (dk_at dksX8_laysKeys_4 0 rfl rfl)
theorem dX8_laysKeys_96 : decode cX8_laysKeys 96 = .ok (.aload_n 0, 1) := dk_42 (dk_at dksX8_laysKeys_4 2 rfl rfl)
theorem dX8_laysKeys_97 : decode cX8_laysKeys 97 = .ok (.getfield 156, 3) := dk_180 0 156 (dk_at dksX8_laysKeys_4 3 rfl rfl)
theorem dX8_laysKeys_100 : decode cX8_laysKeys 100 = .ok (.iload 5, 2) := dk_21 5 (dk_at dksX8_laysKeys_4 6 rfl rfl)
theorem dX8_laysKeys_102 : decode cX8_laysKeys 102 = .ok (.iconst 1, 1) := dk_4 (dk_at dksX8_laysKeys_4 8 rfl rfl)
theorem dX8_laysKeys_103 : decode cX8_laysKeys 103 = .ok (.isub, 1) := dk_100 (dk_at dksX8_laysKeys_4 9 rfl rfl)
theorem dX8_laysKeys_104 : decode cX8_laysKeys 104 = .ok (.iaload, 1) := dk_46 (dk_at dksX8_laysKeys_4 10 rfl rfl)
theorem dX8_laysKeys_105 : decode cX8_laysKeys 105 = .ok (.iastore, 1) := dk_79 (dk_at dksX8_laysKeys_4 11 rfl rfl)
theorem dX8_laysKeys_106 : decode cX8_laysKeys 106 = .ok (.iinc 5 (-1), 3) := dk_132 5 255 (dk_at dksX8_laysKeys_4 12 rfl rfl)
theorem dX8_laysKeys_109 : decode cX8_laysKeys 109 = .ok (.goto (-38), 3) := dk_167 255 218 (dk_at dksX8_laysKeys_4 15 rfl rfl)
theorem dX8_laysKeys_112 : decode cX8_laysKeys 112 = .ok (.aload_n 0, 1) := dk_42 (dk_at dksX8_laysKeys_4 18 rfl rfl)
theorem dX8_laysKeys_113 : decode cX8_laysKeys 113 = .ok (.getfield 156, 3) := dk_180 0 156 (dk_at dksX8_laysKeys_4 19 rfl rfl)
theorem dX8_laysKeys_116 : decode cX8_laysKeys 116 = .ok (.iload 5, 2) := dk_21 5 (dk_at dksX8_laysKeys_4 22 rfl rfl)
theorem dX8_laysKeys_118 : decode cX8_laysKeys 118 = .ok (.iload 4, 2) := dk_21 4 (dk_at dksX8_laysKeys_5 0 rfl rfl)
theorem dX8_laysKeys_120 : decode cX8_laysKeys 120 = .ok (.iastore, 1) := dk_79 (dk_at dksX8_laysKeys_5 2 rfl rfl)
theorem dX8_laysKeys_121 : decode cX8_laysKeys 121 = .ok (.aload_n 0, 1) := dk_42 (dk_at dksX8_laysKeys_5 3 rfl rfl)
theorem dX8_laysKeys_122 : decode cX8_laysKeys 122 = .ok (.dup, 1) := dk_89 (dk_at dksX8_laysKeys_5 4 rfl rfl)
theorem dX8_laysKeys_123 : decode cX8_laysKeys 123 = .ok (.getfield 396, 3) := dk_180 1 140 (dk_at dksX8_laysKeys_5 5 rfl rfl)
theorem dX8_laysKeys_126 : decode cX8_laysKeys 126 = .ok (.iconst 1, 1) := dk_4 (dk_at dksX8_laysKeys_5 8 rfl rfl)
theorem dX8_laysKeys_127 : decode cX8_laysKeys 127 = .ok (.iadd, 1) := dk_96 (dk_at dksX8_laysKeys_5 9 rfl rfl)
theorem dX8_laysKeys_128 : decode cX8_laysKeys 128 = .ok (.putfield 396, 3) := dk_181 1 140 (dk_at dksX8_laysKeys_5 10 rfl rfl)
theorem dX8_laysKeys_131 : decode cX8_laysKeys 131 = .ok (.iinc 3 1, 3) := dk_132 3 1 (dk_at dksX8_laysKeys_5 13 rfl rfl)
theorem dX8_laysKeys_134 : decode cX8_laysKeys 134 = .ok (.goto (-127), 3) := dk_167 255 129 (dk_at dksX8_laysKeys_5 16 rfl rfl)
theorem dX8_laysKeys_137 : decode cX8_laysKeys 137 = .ok (.return_, 1) := dk_177 (dk_at dksX8_laysKeys_5 19 rfl rfl)
abbrev cX8_holdHere : ByteArray := prog_20_method_50_code
def yX8_holdHere : MethodName := ⟨RX8, "holdHere", "(II)Z"⟩
def dkwX8_holdHere_3 : List UInt8 := [153, 0, 7, 4, 167, 0, 4, 3, 62, 132, 4, 1, 167, 255, 178, 29, 172]
abbrev dktX8_holdHere_3 : List UInt8 := dkwX8_holdHere_3 ++ []
def dkwX8_holdHere_2 : List UInt8 := [42, 180, 0, 86, 21, 4, 46, 42, 180, 0, 89, 21, 4, 46, 42, 180, 0, 147, 21, 5, 46, 184, 1, 71]
abbrev dktX8_holdHere_2 : List UInt8 := dkwX8_holdHere_2 ++ dktX8_holdHere_3
def dkwX8_holdHere_1 : List UInt8 := [180, 0, 83, 21, 4, 46, 96, 54, 5, 29, 153, 0, 45, 42, 180, 0, 80, 21, 4, 46, 27, 160, 0, 30]
abbrev dktX8_holdHere_1 : List UInt8 := dkwX8_holdHere_1 ++ dktX8_holdHere_2
def dkwX8_holdHere_0 : List UInt8 := [4, 62, 3, 54, 4, 21, 4, 42, 180, 1, 55, 162, 0, 75, 7, 16, 12, 27, 104, 28, 96, 104, 42]
abbrev dktX8_holdHere_0 : List UInt8 := dkwX8_holdHere_0 ++ dktX8_holdHere_1
theorem dksX8_holdHere_0 : cX8_holdHere.data.toList.drop 0 = dktX8_holdHere_0 := by decide +kernel
theorem dksX8_holdHere_1 : cX8_holdHere.data.toList.drop 23 = dktX8_holdHere_1 := dk_seg dksX8_holdHere_0 23 rfl rfl
theorem dksX8_holdHere_2 : cX8_holdHere.data.toList.drop 47 = dktX8_holdHere_2 := dk_seg dksX8_holdHere_1 24 rfl rfl
theorem dksX8_holdHere_3 : cX8_holdHere.data.toList.drop 71 = dktX8_holdHere_3 := dk_seg dksX8_holdHere_2 24 rfl rfl
theorem dX8_holdHere_0 : decode cX8_holdHere 0 = .ok (.iconst 1, 1) := dk_4 (dk_at dksX8_holdHere_0 0 rfl rfl)
theorem dX8_holdHere_1 : decode cX8_holdHere 1 = .ok (.istore_n 3, 1) := dk_62 (dk_at dksX8_holdHere_0 1 rfl rfl)
theorem dX8_holdHere_2 : decode cX8_holdHere 2 = .ok (.iconst 0, 1) := dk_3 (dk_at dksX8_holdHere_0 2 rfl rfl)
theorem dX8_holdHere_3 : decode cX8_holdHere 3 = .ok (.istore 4, 2) := dk_54 4 (dk_at dksX8_holdHere_0 3 rfl rfl)
theorem dX8_holdHere_5 : decode cX8_holdHere 5 = .ok (.iload 4, 2) := dk_21 4 (dk_at dksX8_holdHere_0 5 rfl rfl)
theorem dX8_holdHere_7 : decode cX8_holdHere 7 = .ok (.aload_n 0, 1) := dk_42 (dk_at dksX8_holdHere_0 7 rfl rfl)
theorem dX8_holdHere_8 : decode cX8_holdHere 8 = .ok (.getfield 311, 3) := dk_180 1 55 (dk_at dksX8_holdHere_0 8 rfl rfl)
theorem dX8_holdHere_11 : decode cX8_holdHere 11 = .ok (.if_icmp .ge 75, 3) := dk_162 0 75 (dk_at dksX8_holdHere_0 11 rfl rfl)
theorem dX8_holdHere_14 : decode cX8_holdHere 14 = .ok (.iconst 4, 1) := dk_7 (dk_at dksX8_holdHere_0 14 rfl rfl)
theorem dX8_holdHere_15 : decode cX8_holdHere 15 = .ok (.bipush 12, 2) := dk_16 12 (dk_at dksX8_holdHere_0 15 rfl rfl)
theorem dX8_holdHere_17 : decode cX8_holdHere 17 = .ok (.iload_n 1, 1) := dk_27 (dk_at dksX8_holdHere_0 17 rfl rfl)
theorem dX8_holdHere_18 : decode cX8_holdHere 18 = .ok (.imul, 1) := dk_104 (dk_at dksX8_holdHere_0 18 rfl rfl)
theorem dX8_holdHere_19 : decode cX8_holdHere 19 = .ok (.iload_n 2, 1) := dk_28 (dk_at dksX8_holdHere_0 19 rfl rfl)
theorem dX8_holdHere_20 : decode cX8_holdHere 20 = .ok (.iadd, 1) := dk_96 (dk_at dksX8_holdHere_0 20 rfl rfl)
theorem dX8_holdHere_21 : decode cX8_holdHere 21 = .ok (.imul, 1) := dk_104 (dk_at dksX8_holdHere_0 21 rfl rfl)
theorem dX8_holdHere_22 : decode cX8_holdHere 22 = .ok (.aload_n 0, 1) := dk_42 (dk_at dksX8_holdHere_0 22 rfl rfl)
theorem dX8_holdHere_23 : decode cX8_holdHere 23 = .ok (.getfield 83, 3) := dk_180 0 83 (dk_at dksX8_holdHere_1 0 rfl rfl)
theorem dX8_holdHere_26 : decode cX8_holdHere 26 = .ok (.iload 4, 2) := dk_21 4 (dk_at dksX8_holdHere_1 3 rfl rfl)
theorem dX8_holdHere_28 : decode cX8_holdHere 28 = .ok (.iaload, 1) := dk_46 (dk_at dksX8_holdHere_1 5 rfl rfl)
theorem dX8_holdHere_29 : decode cX8_holdHere 29 = .ok (.iadd, 1) := dk_96 (dk_at dksX8_holdHere_1 6 rfl rfl)
theorem dX8_holdHere_30 : decode cX8_holdHere 30 = .ok (.istore 5, 2) := dk_54 5 (dk_at dksX8_holdHere_1 7 rfl rfl)
theorem dX8_holdHere_32 : decode cX8_holdHere 32 = .ok (.iload_n 3, 1) := dk_29 (dk_at dksX8_holdHere_1 9 rfl rfl)
theorem dX8_holdHere_33 : decode cX8_holdHere 33 = .ok (.ifCond .eq 45, 3) := dk_153 0 45 (dk_at dksX8_holdHere_1 10 rfl rfl)
theorem dX8_holdHere_36 : decode cX8_holdHere 36 = .ok (.aload_n 0, 1) := dk_42 (dk_at dksX8_holdHere_1 13 rfl rfl)
theorem dX8_holdHere_37 : decode cX8_holdHere 37 = .ok (.getfield 80, 3) := dk_180 0 80 (dk_at dksX8_holdHere_1 14 rfl rfl)
theorem dX8_holdHere_40 : decode cX8_holdHere 40 = .ok (.iload 4, 2) := dk_21 4 (dk_at dksX8_holdHere_1 17 rfl rfl)
theorem dX8_holdHere_42 : decode cX8_holdHere 42 = .ok (.iaload, 1) := dk_46 (dk_at dksX8_holdHere_1 19 rfl rfl)
theorem dX8_holdHere_43 : decode cX8_holdHere 43 = .ok (.iload_n 1, 1) := dk_27 (dk_at dksX8_holdHere_1 20 rfl rfl)
theorem dX8_holdHere_44 : decode cX8_holdHere 44 = .ok (.if_icmp .ne 30, 3) := dk_160 0 30 (dk_at dksX8_holdHere_1 21 rfl rfl)
theorem dX8_holdHere_47 : decode cX8_holdHere 47 = .ok (.aload_n 0, 1) := dk_42 (dk_at dksX8_holdHere_2 0 rfl rfl)
theorem dX8_holdHere_48 : decode cX8_holdHere 48 = .ok (.getfield 86, 3) := dk_180 0 86 (dk_at dksX8_holdHere_2 1 rfl rfl)
theorem dX8_holdHere_51 : decode cX8_holdHere 51 = .ok (.iload 4, 2) := dk_21 4 (dk_at dksX8_holdHere_2 4 rfl rfl)
theorem dX8_holdHere_53 : decode cX8_holdHere 53 = .ok (.iaload, 1) := dk_46 (dk_at dksX8_holdHere_2 6 rfl rfl)
theorem dX8_holdHere_54 : decode cX8_holdHere 54 = .ok (.aload_n 0, 1) := dk_42 (dk_at dksX8_holdHere_2 7 rfl rfl)
theorem dX8_holdHere_55 : decode cX8_holdHere 55 = .ok (.getfield 89, 3) := dk_180 0 89 (dk_at dksX8_holdHere_2 8 rfl rfl)
theorem dX8_holdHere_58 : decode cX8_holdHere 58 = .ok (.iload 4, 2) := dk_21 4 (dk_at dksX8_holdHere_2 11 rfl rfl)
theorem dX8_holdHere_60 : decode cX8_holdHere 60 = .ok (.iaload, 1) := dk_46 (dk_at dksX8_holdHere_2 13 rfl rfl)
theorem dX8_holdHere_61 : decode cX8_holdHere 61 = .ok (.aload_n 0, 1) := dk_42 (dk_at dksX8_holdHere_2 14 rfl rfl)
theorem dX8_holdHere_62 : decode cX8_holdHere 62 = .ok (.getfield 147, 3) := dk_180 0 147 (dk_at dksX8_holdHere_2 15 rfl rfl)
theorem dX8_holdHere_65 : decode cX8_holdHere 65 = .ok (.iload 5, 2) := dk_21 5 (dk_at dksX8_holdHere_2 18 rfl rfl)
theorem dX8_holdHere_67 : decode cX8_holdHere 67 = .ok (.iaload, 1) := dk_46 (dk_at dksX8_holdHere_2 20 rfl rfl)
theorem dX8_holdHere_68 : decode cX8_holdHere 68 = .ok (.invokestatic 327, 3) := dk_184 1 71 (dk_at dksX8_holdHere_2 21 rfl rfl)
theorem dX8_holdHere_71 : decode cX8_holdHere 71 = .ok (.ifCond .eq 7, 3) := dk_153 0 7 (dk_at dksX8_holdHere_3 0 rfl rfl)
theorem dX8_holdHere_74 : decode cX8_holdHere 74 = .ok (.iconst 1, 1) := dk_4 (dk_at dksX8_holdHere_3 3 rfl rfl)
theorem dX8_holdHere_75 : decode cX8_holdHere 75 = .ok (.goto 4, 3) := dk_167 0 4 (dk_at dksX8_holdHere_3 4 rfl rfl)
theorem dX8_holdHere_78 : decode cX8_holdHere 78 = .ok (.iconst 0, 1) := dk_3 (dk_at dksX8_holdHere_3 7 rfl rfl)
theorem dX8_holdHere_79 : decode cX8_holdHere 79 = .ok (.istore_n 3, 1) := dk_62 (dk_at dksX8_holdHere_3 8 rfl rfl)
theorem dX8_holdHere_80 : decode cX8_holdHere 80 = .ok (.iinc 4 1, 3) := dk_132 4 1 (dk_at dksX8_holdHere_3 9 rfl rfl)
theorem dX8_holdHere_83 : decode cX8_holdHere 83 = .ok (.goto (-78), 3) := dk_167 255 178 (dk_at dksX8_holdHere_3 12 rfl rfl)
theorem dX8_holdHere_86 : decode cX8_holdHere 86 = .ok (.iload_n 3, 1) := dk_29 (dk_at dksX8_holdHere_3 15 rfl rfl)
theorem dX8_holdHere_87 : decode cX8_holdHere 87 = .ok (.ireturn, 1) := dk_172 (dk_at dksX8_holdHere_3 16 rfl rfl)
abbrev cX8_holds : ByteArray := prog_20_method_45_code
def yX8_holds : MethodName := ⟨RX8, "holds", "(III)Z"⟩
def dkwX8_holds_5 : List UInt8 := [17, 19, 137, 160, 0, 7, 4, 167, 0, 4, 3, 172]
abbrev dktX8_holds_5 : List UInt8 := dkwX8_holds_5 ++ []
def dkwX8_holds_4 : List UInt8 := [164, 0, 7, 4, 167, 0, 4, 3, 172, 28, 17, 19, 136, 160, 0, 7, 4, 167, 0, 4, 3, 172, 28]
abbrev dktX8_holds_4 : List UInt8 := dkwX8_holds_4 ++ dktX8_holds_5
def dkwX8_holds_3 : List UInt8 := [153, 0, 12, 28, 27, 162, 0, 7, 4, 167, 0, 4, 3, 172, 28, 184, 0, 228, 153, 0, 12, 28, 27]
abbrev dktX8_holds_3 : List UInt8 := dkwX8_holds_3 ++ dktX8_holds_4
def dkwX8_holds_2 : List UInt8 := [28, 184, 0, 228, 153, 0, 12, 28, 27, 160, 0, 7, 4, 167, 0, 4, 3, 172, 28, 184, 0, 228]
abbrev dktX8_holds_2 : List UInt8 := dkwX8_holds_2 ++ dktX8_holds_3
def dkwX8_holds_1 : List UInt8 := [170, 0, 0, 0, 0, 0, 98, 0, 0, 0, 0, 0, 0, 0, 3, 0, 0, 0, 31, 0, 0, 0, 49, 0, 0, 0, 67, 0, 0, 0, 85]
abbrev dktX8_holds_1 : List UInt8 := dkwX8_holds_1 ++ dktX8_holds_2
def dkwX8_holds_0 : List UInt8 := [26]
abbrev dktX8_holds_0 : List UInt8 := dkwX8_holds_0 ++ dktX8_holds_1
theorem dksX8_holds_0 : cX8_holds.data.toList.drop 0 = dktX8_holds_0 := by decide +kernel
theorem dksX8_holds_1 : cX8_holds.data.toList.drop 1 = dktX8_holds_1 := dk_seg dksX8_holds_0 1 rfl rfl
theorem dksX8_holds_2 : cX8_holds.data.toList.drop 32 = dktX8_holds_2 := dk_seg dksX8_holds_1 31 rfl rfl
theorem dksX8_holds_3 : cX8_holds.data.toList.drop 54 = dktX8_holds_3 := dk_seg dksX8_holds_2 22 rfl rfl
theorem dksX8_holds_4 : cX8_holds.data.toList.drop 77 = dktX8_holds_4 := dk_seg dksX8_holds_3 23 rfl rfl
theorem dksX8_holds_5 : cX8_holds.data.toList.drop 100 = dktX8_holds_5 := dk_seg dksX8_holds_4 23 rfl rfl
theorem dX8_holds_0 : decode cX8_holds 0 = .ok (.iload_n 0, 1) := dk_26 (dk_at dksX8_holds_0 0 rfl rfl)
theorem dX8_holds_1 : decode cX8_holds 1 = .ok (.tableswitch 98 0 3 #[31, 49, 67, 85], 31) := by decide +kernel
theorem dX8_holds_32 : decode cX8_holds 32 = .ok (.iload_n 2, 1) := dk_28 (dk_at dksX8_holds_2 0 rfl rfl)
theorem dX8_holds_33 : decode cX8_holds 33 = .ok (.invokestatic 228, 3) := dk_184 0 228 (dk_at dksX8_holds_2 1 rfl rfl)
theorem dX8_holds_36 : decode cX8_holds 36 = .ok (.ifCond .eq 12, 3) := dk_153 0 12 (dk_at dksX8_holds_2 4 rfl rfl)
theorem dX8_holds_39 : decode cX8_holds 39 = .ok (.iload_n 2, 1) := dk_28 (dk_at dksX8_holds_2 7 rfl rfl)
theorem dX8_holds_40 : decode cX8_holds 40 = .ok (.iload_n 1, 1) := dk_27 (dk_at dksX8_holds_2 8 rfl rfl)
theorem dX8_holds_41 : decode cX8_holds 41 = .ok (.if_icmp .ne 7, 3) := dk_160 0 7 (dk_at dksX8_holds_2 9 rfl rfl)
theorem dX8_holds_44 : decode cX8_holds 44 = .ok (.iconst 1, 1) := dk_4 (dk_at dksX8_holds_2 12 rfl rfl)
theorem dX8_holds_45 : decode cX8_holds 45 = .ok (.goto 4, 3) := dk_167 0 4 (dk_at dksX8_holds_2 13 rfl rfl)
theorem dX8_holds_48 : decode cX8_holds 48 = .ok (.iconst 0, 1) := dk_3 (dk_at dksX8_holds_2 16 rfl rfl)
theorem dX8_holds_49 : decode cX8_holds 49 = .ok (.ireturn, 1) := dk_172 (dk_at dksX8_holds_2 17 rfl rfl)
theorem dX8_holds_50 : decode cX8_holds 50 = .ok (.iload_n 2, 1) := dk_28 (dk_at dksX8_holds_2 18 rfl rfl)
theorem dX8_holds_51 : decode cX8_holds 51 = .ok (.invokestatic 228, 3) := dk_184 0 228 (dk_at dksX8_holds_2 19 rfl rfl)
theorem dX8_holds_54 : decode cX8_holds 54 = .ok (.ifCond .eq 12, 3) := dk_153 0 12 (dk_at dksX8_holds_3 0 rfl rfl)
theorem dX8_holds_57 : decode cX8_holds 57 = .ok (.iload_n 2, 1) := dk_28 (dk_at dksX8_holds_3 3 rfl rfl)
theorem dX8_holds_58 : decode cX8_holds 58 = .ok (.iload_n 1, 1) := dk_27 (dk_at dksX8_holds_3 4 rfl rfl)
theorem dX8_holds_59 : decode cX8_holds 59 = .ok (.if_icmp .ge 7, 3) := dk_162 0 7 (dk_at dksX8_holds_3 5 rfl rfl)
theorem dX8_holds_62 : decode cX8_holds 62 = .ok (.iconst 1, 1) := dk_4 (dk_at dksX8_holds_3 8 rfl rfl)
theorem dX8_holds_63 : decode cX8_holds 63 = .ok (.goto 4, 3) := dk_167 0 4 (dk_at dksX8_holds_3 9 rfl rfl)
theorem dX8_holds_66 : decode cX8_holds 66 = .ok (.iconst 0, 1) := dk_3 (dk_at dksX8_holds_3 12 rfl rfl)
theorem dX8_holds_67 : decode cX8_holds 67 = .ok (.ireturn, 1) := dk_172 (dk_at dksX8_holds_3 13 rfl rfl)
theorem dX8_holds_68 : decode cX8_holds 68 = .ok (.iload_n 2, 1) := dk_28 (dk_at dksX8_holds_3 14 rfl rfl)
theorem dX8_holds_69 : decode cX8_holds 69 = .ok (.invokestatic 228, 3) := dk_184 0 228 (dk_at dksX8_holds_3 15 rfl rfl)
theorem dX8_holds_72 : decode cX8_holds 72 = .ok (.ifCond .eq 12, 3) := dk_153 0 12 (dk_at dksX8_holds_3 18 rfl rfl)
theorem dX8_holds_75 : decode cX8_holds 75 = .ok (.iload_n 2, 1) := dk_28 (dk_at dksX8_holds_3 21 rfl rfl)
theorem dX8_holds_76 : decode cX8_holds 76 = .ok (.iload_n 1, 1) := dk_27 (dk_at dksX8_holds_3 22 rfl rfl)
theorem dX8_holds_77 : decode cX8_holds 77 = .ok (.if_icmp .le 7, 3) := dk_164 0 7 (dk_at dksX8_holds_4 0 rfl rfl)
theorem dX8_holds_80 : decode cX8_holds 80 = .ok (.iconst 1, 1) := dk_4 (dk_at dksX8_holds_4 3 rfl rfl)
theorem dX8_holds_81 : decode cX8_holds 81 = .ok (.goto 4, 3) := dk_167 0 4 (dk_at dksX8_holds_4 4 rfl rfl)
theorem dX8_holds_84 : decode cX8_holds 84 = .ok (.iconst 0, 1) := dk_3 (dk_at dksX8_holds_4 7 rfl rfl)
theorem dX8_holds_85 : decode cX8_holds 85 = .ok (.ireturn, 1) := dk_172 (dk_at dksX8_holds_4 8 rfl rfl)
theorem dX8_holds_86 : decode cX8_holds 86 = .ok (.iload_n 2, 1) := dk_28 (dk_at dksX8_holds_4 9 rfl rfl)
theorem dX8_holds_87 : decode cX8_holds 87 = .ok (.sipush 5000, 3) := dk_17 19 136 (dk_at dksX8_holds_4 10 rfl rfl)
theorem dX8_holds_90 : decode cX8_holds 90 = .ok (.if_icmp .ne 7, 3) := dk_160 0 7 (dk_at dksX8_holds_4 13 rfl rfl)
theorem dX8_holds_93 : decode cX8_holds 93 = .ok (.iconst 1, 1) := dk_4 (dk_at dksX8_holds_4 16 rfl rfl)
theorem dX8_holds_94 : decode cX8_holds 94 = .ok (.goto 4, 3) := dk_167 0 4 (dk_at dksX8_holds_4 17 rfl rfl)
theorem dX8_holds_97 : decode cX8_holds 97 = .ok (.iconst 0, 1) := dk_3 (dk_at dksX8_holds_4 20 rfl rfl)
theorem dX8_holds_98 : decode cX8_holds 98 = .ok (.ireturn, 1) := dk_172 (dk_at dksX8_holds_4 21 rfl rfl)
theorem dX8_holds_99 : decode cX8_holds 99 = .ok (.iload_n 2, 1) := dk_28 (dk_at dksX8_holds_4 22 rfl rfl)
theorem dX8_holds_100 : decode cX8_holds 100 = .ok (.sipush 5001, 3) := dk_17 19 137 (dk_at dksX8_holds_5 0 rfl rfl)
theorem dX8_holds_103 : decode cX8_holds 103 = .ok (.if_icmp .ne 7, 3) := dk_160 0 7 (dk_at dksX8_holds_5 3 rfl rfl)
theorem dX8_holds_106 : decode cX8_holds 106 = .ok (.iconst 1, 1) := dk_4 (dk_at dksX8_holds_5 6 rfl rfl)
theorem dX8_holds_107 : decode cX8_holds 107 = .ok (.goto 4, 3) := dk_167 0 4 (dk_at dksX8_holds_5 7 rfl rfl)
theorem dX8_holds_110 : decode cX8_holds 110 = .ok (.iconst 0, 1) := dk_3 (dk_at dksX8_holds_5 10 rfl rfl)
theorem dX8_holds_111 : decode cX8_holds 111 = .ok (.ireturn, 1) := dk_172 (dk_at dksX8_holds_5 11 rfl rfl)
abbrev cX8_isKey : ByteArray := prog_20_method_55_code
def yX8_isKey : MethodName := ⟨RX8, "isKey", "(III)Z"⟩
def dkwX8_isKey_1 : List UInt8 := [27, 160, 0, 7, 4, 167, 0, 4, 3, 54, 4, 132, 5, 1, 167, 255, 224, 21, 4, 172]
abbrev dktX8_isKey_1 : List UInt8 := dkwX8_isKey_1 ++ []
def dkwX8_isKey_0 : List UInt8 := [3, 54, 4, 28, 54, 5, 21, 5, 29, 162, 0, 32, 21, 4, 154, 0, 14, 42, 180, 0, 156, 21, 5, 46]
abbrev dktX8_isKey_0 : List UInt8 := dkwX8_isKey_0 ++ dktX8_isKey_1
theorem dksX8_isKey_0 : cX8_isKey.data.toList.drop 0 = dktX8_isKey_0 := by decide +kernel
theorem dksX8_isKey_1 : cX8_isKey.data.toList.drop 24 = dktX8_isKey_1 := dk_seg dksX8_isKey_0 24 rfl rfl
theorem dX8_isKey_0 : decode cX8_isKey 0 = .ok (.iconst 0, 1) := dk_3 (dk_at dksX8_isKey_0 0 rfl rfl)
theorem dX8_isKey_1 : decode cX8_isKey 1 = .ok (.istore 4, 2) := dk_54 4 (dk_at dksX8_isKey_0 1 rfl rfl)
theorem dX8_isKey_3 : decode cX8_isKey 3 = .ok (.iload_n 2, 1) := dk_28 (dk_at dksX8_isKey_0 3 rfl rfl)
theorem dX8_isKey_4 : decode cX8_isKey 4 = .ok (.istore 5, 2) := dk_54 5 (dk_at dksX8_isKey_0 4 rfl rfl)
theorem dX8_isKey_6 : decode cX8_isKey 6 = .ok (.iload 5, 2) := dk_21 5 (dk_at dksX8_isKey_0 6 rfl rfl)
theorem dX8_isKey_8 : decode cX8_isKey 8 = .ok (.iload_n 3, 1) := dk_29 (dk_at dksX8_isKey_0 8 rfl rfl)
theorem dX8_isKey_9 : decode cX8_isKey 9 = .ok (.if_icmp .ge 32, 3) := dk_162 0 32 (dk_at dksX8_isKey_0 9 rfl rfl)
theorem dX8_isKey_12 : decode cX8_isKey 12 = .ok (.iload 4, 2) := dk_21 4 (dk_at dksX8_isKey_0 12 rfl rfl)
theorem dX8_isKey_14 : decode cX8_isKey 14 = .ok (.ifCond .ne 14, 3) := dk_154 0 14 (dk_at dksX8_isKey_0 14 rfl rfl)
theorem dX8_isKey_17 : decode cX8_isKey 17 = .ok (.aload_n 0, 1) := dk_42 (dk_at dksX8_isKey_0 17 rfl rfl)
theorem dX8_isKey_18 : decode cX8_isKey 18 = .ok (.getfield 156, 3) := dk_180 0 156 (dk_at dksX8_isKey_0 18 rfl rfl)
theorem dX8_isKey_21 : decode cX8_isKey 21 = .ok (.iload 5, 2) := dk_21 5 (dk_at dksX8_isKey_0 21 rfl rfl)
theorem dX8_isKey_23 : decode cX8_isKey 23 = .ok (.iaload, 1) := dk_46 (dk_at dksX8_isKey_0 23 rfl rfl)
theorem dX8_isKey_24 : decode cX8_isKey 24 = .ok (.iload_n 1, 1) := dk_27 (dk_at dksX8_isKey_1 0 rfl rfl)
theorem dX8_isKey_25 : decode cX8_isKey 25 = .ok (.if_icmp .ne 7, 3) := dk_160 0 7 (dk_at dksX8_isKey_1 1 rfl rfl)
theorem dX8_isKey_28 : decode cX8_isKey 28 = .ok (.iconst 1, 1) := dk_4 (dk_at dksX8_isKey_1 4 rfl rfl)
theorem dX8_isKey_29 : decode cX8_isKey 29 = .ok (.goto 4, 3) := dk_167 0 4 (dk_at dksX8_isKey_1 5 rfl rfl)
theorem dX8_isKey_32 : decode cX8_isKey 32 = .ok (.iconst 0, 1) := dk_3 (dk_at dksX8_isKey_1 8 rfl rfl)
theorem dX8_isKey_33 : decode cX8_isKey 33 = .ok (.istore 4, 2) := dk_54 4 (dk_at dksX8_isKey_1 9 rfl rfl)
theorem dX8_isKey_35 : decode cX8_isKey 35 = .ok (.iinc 5 1, 3) := dk_132 5 1 (dk_at dksX8_isKey_1 11 rfl rfl)
theorem dX8_isKey_38 : decode cX8_isKey 38 = .ok (.goto (-32), 3) := dk_167 255 224 (dk_at dksX8_isKey_1 14 rfl rfl)
theorem dX8_isKey_41 : decode cX8_isKey 41 = .ok (.iload 4, 2) := dk_21 4 (dk_at dksX8_isKey_1 17 rfl rfl)
theorem dX8_isKey_43 : decode cX8_isKey 43 = .ok (.ireturn, 1) := dk_172 (dk_at dksX8_isKey_1 19 rfl rfl)
abbrev cX8_binds : ByteArray := prog_20_method_68_code
def yX8_binds : MethodName := ⟨RX8, "binds", "(II)I"⟩
def dkwX8_binds_7 : List UInt8 := [16, 10, 167, 0, 4, 3, 96, 172]
abbrev dktX8_binds_7 : List UInt8 := dkwX8_binds_7 ++ []
def dkwX8_binds_6 : List UInt8 := [153, 0, 8, 16, 10, 167, 0, 4, 3, 96, 172, 132, 6, 4, 167, 255, 145, 4, 21, 5, 153, 0, 8]
abbrev dktX8_binds_6 : List UInt8 := dkwX8_binds_6 ++ dktX8_binds_7
def dkwX8_binds_5 : List UInt8 := [21, 7, 42, 180, 1, 140, 162, 0, 29, 42, 180, 1, 89, 21, 4, 161, 0, 20, 5, 42, 27, 182, 1, 149]
abbrev dktX8_binds_5 : List UInt8 := dkwX8_binds_5 ++ dktX8_binds_6
def dkwX8_binds_4 : List UInt8 := [21, 7, 182, 1, 114, 21, 5, 154, 0, 10, 42, 180, 1, 96, 153, 0, 7, 4, 167, 0, 4, 3, 54, 5]
abbrev dktX8_binds_4 : List UInt8 := dkwX8_binds_4 ++ dktX8_binds_5
def dkwX8_binds_3 : List UInt8 := [180, 1, 140, 162, 0, 10, 21, 6, 7, 96, 167, 0, 7, 42, 180, 1, 140, 54, 7, 42, 27, 28, 21, 6]
abbrev dktX8_binds_3 : List UInt8 := dkwX8_binds_3 ++ dktX8_binds_4
def dkwX8_binds_2 : List UInt8 := [42, 180, 1, 140, 162, 0, 108, 42, 29, 182, 1, 111, 154, 0, 6, 16, 11, 172, 21, 6, 7, 96, 42]
abbrev dktX8_binds_2 : List UInt8 := dkwX8_binds_2 ++ dktX8_binds_3
def dkwX8_binds_1 : List UInt8 := [180, 0, 56, 29, 46, 104, 96, 54, 4, 3, 54, 5, 42, 180, 0, 141, 27, 3, 79, 3, 54, 6, 21, 6]
abbrev dktX8_binds_1 : List UInt8 := dkwX8_binds_1 ++ dktX8_binds_2
def dkwX8_binds_0 : List UInt8 := [42, 180, 0, 65, 27, 46, 184, 0, 220, 62, 42, 180, 0, 53, 29, 46, 42, 27, 182, 1, 137, 42]
abbrev dktX8_binds_0 : List UInt8 := dkwX8_binds_0 ++ dktX8_binds_1
theorem dksX8_binds_0 : cX8_binds.data.toList.drop 0 = dktX8_binds_0 := by decide +kernel
theorem dksX8_binds_1 : cX8_binds.data.toList.drop 22 = dktX8_binds_1 := dk_seg dksX8_binds_0 22 rfl rfl
theorem dksX8_binds_2 : cX8_binds.data.toList.drop 46 = dktX8_binds_2 := dk_seg dksX8_binds_1 24 rfl rfl
theorem dksX8_binds_3 : cX8_binds.data.toList.drop 69 = dktX8_binds_3 := dk_seg dksX8_binds_2 23 rfl rfl
theorem dksX8_binds_4 : cX8_binds.data.toList.drop 93 = dktX8_binds_4 := dk_seg dksX8_binds_3 24 rfl rfl
theorem dksX8_binds_5 : cX8_binds.data.toList.drop 117 = dktX8_binds_5 := dk_seg dksX8_binds_4 24 rfl rfl
theorem dksX8_binds_6 : cX8_binds.data.toList.drop 141 = dktX8_binds_6 := dk_seg dksX8_binds_5 24 rfl rfl
theorem dksX8_binds_7 : cX8_binds.data.toList.drop 164 = dktX8_binds_7 := dk_seg dksX8_binds_6 23 rfl rfl
theorem dX8_binds_0 : decode cX8_binds 0 = .ok (.aload_n 0, 1) := dk_42 (dk_at dksX8_binds_0 0 rfl rfl)
theorem dX8_binds_1 : decode cX8_binds 1 = .ok (.getfield 65, 3) := dk_180 0 65 (dk_at dksX8_binds_0 1 rfl rfl)
theorem dX8_binds_4 : decode cX8_binds 4 = .ok (.iload_n 1, 1) := dk_27 (dk_at dksX8_binds_0 4 rfl rfl)
theorem dX8_binds_5 : decode cX8_binds 5 = .ok (.iaload, 1) := dk_46 (dk_at dksX8_binds_0 5 rfl rfl)
theorem dX8_binds_6 : decode cX8_binds 6 = .ok (.invokestatic 220, 3) := dk_184 0 220 (dk_at dksX8_binds_0 6 rfl rfl)
theorem dX8_binds_9 : decode cX8_binds 9 = .ok (.istore_n 3, 1) := dk_62 (dk_at dksX8_binds_0 9 rfl rfl)
theorem dX8_binds_10 : decode cX8_binds 10 = .ok (.aload_n 0, 1) := dk_42 (dk_at dksX8_binds_0 10 rfl rfl)
theorem dX8_binds_11 : decode cX8_binds 11 = .ok (.getfield 53, 3) := dk_180 0 53 (dk_at dksX8_binds_0 11 rfl rfl)
theorem dX8_binds_14 : decode cX8_binds 14 = .ok (.iload_n 3, 1) := dk_29 (dk_at dksX8_binds_0 14 rfl rfl)
theorem dX8_binds_15 : decode cX8_binds 15 = .ok (.iaload, 1) := dk_46 (dk_at dksX8_binds_0 15 rfl rfl)
theorem dX8_binds_16 : decode cX8_binds 16 = .ok (.aload_n 0, 1) := dk_42 (dk_at dksX8_binds_0 16 rfl rfl)
theorem dX8_binds_17 : decode cX8_binds 17 = .ok (.iload_n 1, 1) := dk_27 (dk_at dksX8_binds_0 17 rfl rfl)
theorem dX8_binds_18 : decode cX8_binds 18 = .ok (.invokevirtual 393, 3) := dk_182 1 137 (dk_at dksX8_binds_0 18 rfl rfl)
theorem dX8_binds_21 : decode cX8_binds 21 = .ok (.aload_n 0, 1) := dk_42 (dk_at dksX8_binds_0 21 rfl rfl)
theorem dX8_binds_22 : decode cX8_binds 22 = .ok (.getfield 56, 3) := dk_180 0 56 (dk_at dksX8_binds_1 0 rfl rfl)
theorem dX8_binds_25 : decode cX8_binds 25 = .ok (.iload_n 3, 1) := dk_29 (dk_at dksX8_binds_1 3 rfl rfl)
theorem dX8_binds_26 : decode cX8_binds 26 = .ok (.iaload, 1) := dk_46 (dk_at dksX8_binds_1 4 rfl rfl)
theorem dX8_binds_27 : decode cX8_binds 27 = .ok (.imul, 1) := dk_104 (dk_at dksX8_binds_1 5 rfl rfl)
theorem dX8_binds_28 : decode cX8_binds 28 = .ok (.iadd, 1) := dk_96 (dk_at dksX8_binds_1 6 rfl rfl)
theorem dX8_binds_29 : decode cX8_binds 29 = .ok (.istore 4, 2) := dk_54 4 (dk_at dksX8_binds_1 7 rfl rfl)
theorem dX8_binds_31 : decode cX8_binds 31 = .ok (.iconst 0, 1) := dk_3 (dk_at dksX8_binds_1 9 rfl rfl)
theorem dX8_binds_32 : decode cX8_binds 32 = .ok (.istore 5, 2) := dk_54 5 (dk_at dksX8_binds_1 10 rfl rfl)
theorem dX8_binds_34 : decode cX8_binds 34 = .ok (.aload_n 0, 1) := dk_42 (dk_at dksX8_binds_1 12 rfl rfl)
theorem dX8_binds_35 : decode cX8_binds 35 = .ok (.getfield 141, 3) := dk_180 0 141 (dk_at dksX8_binds_1 13 rfl rfl)
theorem dX8_binds_38 : decode cX8_binds 38 = .ok (.iload_n 1, 1) := dk_27 (dk_at dksX8_binds_1 16 rfl rfl)
theorem dX8_binds_39 : decode cX8_binds 39 = .ok (.iconst 0, 1) := dk_3 (dk_at dksX8_binds_1 17 rfl rfl)
theorem dX8_binds_40 : decode cX8_binds 40 = .ok (.iastore, 1) := dk_79 (dk_at dksX8_binds_1 18 rfl rfl)
theorem dX8_binds_41 : decode cX8_binds 41 = .ok (.iconst 0, 1) := dk_3 (dk_at dksX8_binds_1 19 rfl rfl)
theorem dX8_binds_42 : decode cX8_binds 42 = .ok (.istore 6, 2) := dk_54 6 (dk_at dksX8_binds_1 20 rfl rfl)
theorem dX8_binds_44 : decode cX8_binds 44 = .ok (.iload 6, 2) := dk_21 6 (dk_at dksX8_binds_1 22 rfl rfl)
theorem dX8_binds_46 : decode cX8_binds 46 = .ok (.aload_n 0, 1) := dk_42 (dk_at dksX8_binds_2 0 rfl rfl)
theorem dX8_binds_47 : decode cX8_binds 47 = .ok (.getfield 396, 3) := dk_180 1 140 (dk_at dksX8_binds_2 1 rfl rfl)
theorem dX8_binds_50 : decode cX8_binds 50 = .ok (.if_icmp .ge 108, 3) := dk_162 0 108 (dk_at dksX8_binds_2 4 rfl rfl)
theorem dX8_binds_53 : decode cX8_binds 53 = .ok (.aload_n 0, 1) := dk_42 (dk_at dksX8_binds_2 7 rfl rfl)
theorem dX8_binds_54 : decode cX8_binds 54 = .ok (.iload_n 3, 1) := dk_29 (dk_at dksX8_binds_2 8 rfl rfl)
theorem dX8_binds_55 : decode cX8_binds 55 = .ok (.invokevirtual 367, 3) := dk_182 1 111 (dk_at dksX8_binds_2 9 rfl rfl)
theorem dX8_binds_58 : decode cX8_binds 58 = .ok (.ifCond .ne 6, 3) := dk_154 0 6 (dk_at dksX8_binds_2 12 rfl rfl)
theorem dX8_binds_61 : decode cX8_binds 61 = .ok (.bipush 11, 2) := dk_16 11 (dk_at dksX8_binds_2 15 rfl rfl)
theorem dX8_binds_63 : decode cX8_binds 63 = .ok (.ireturn, 1) := dk_172 (dk_at dksX8_binds_2 17 rfl rfl)
theorem dX8_binds_64 : decode cX8_binds 64 = .ok (.iload 6, 2) := dk_21 6 (dk_at dksX8_binds_2 18 rfl rfl)
theorem dX8_binds_66 : decode cX8_binds 66 = .ok (.iconst 4, 1) := dk_7 (dk_at dksX8_binds_2 20 rfl rfl)
theorem dX8_binds_67 : decode cX8_binds 67 = .ok (.iadd, 1) := dk_96 (dk_at dksX8_binds_2 21 rfl rfl)
theorem dX8_binds_68 : decode cX8_binds 68 = .ok (.aload_n 0, 1) := dk_42 (dk_at dksX8_binds_2 22 rfl rfl)
theorem dX8_binds_69 : decode cX8_binds 69 = .ok (.getfield 396, 3) := dk_180 1 140 (dk_at dksX8_binds_3 0 rfl rfl)
theorem dX8_binds_72 : decode cX8_binds 72 = .ok (.if_icmp .ge 10, 3) := dk_162 0 10 (dk_at dksX8_binds_3 3 rfl rfl)
theorem dX8_binds_75 : decode cX8_binds 75 = .ok (.iload 6, 2) := dk_21 6 (dk_at dksX8_binds_3 6 rfl rfl)
theorem dX8_binds_77 : decode cX8_binds 77 = .ok (.iconst 4, 1) := dk_7 (dk_at dksX8_binds_3 8 rfl rfl)
theorem dX8_binds_78 : decode cX8_binds 78 = .ok (.iadd, 1) := dk_96 (dk_at dksX8_binds_3 9 rfl rfl)
theorem dX8_binds_79 : decode cX8_binds 79 = .ok (.goto 7, 3) := dk_167 0 7 (dk_at dksX8_binds_3 10 rfl rfl)
theorem dX8_binds_82 : decode cX8_binds 82 = .ok (.aload_n 0, 1) := dk_42 (dk_at dksX8_binds_3 13 rfl rfl)
theorem dX8_binds_83 : decode cX8_binds 83 = .ok (.getfield 396, 3) := dk_180 1 140 (dk_at dksX8_binds_3 14 rfl rfl)
theorem dX8_binds_86 : decode cX8_binds 86 = .ok (.istore 7, 2) := dk_54 7 (dk_at dksX8_binds_3 17 rfl rfl)
theorem dX8_binds_88 : decode cX8_binds 88 = .ok (.aload_n 0, 1) := dk_42 (dk_at dksX8_binds_3 19 rfl rfl)
theorem dX8_binds_89 : decode cX8_binds 89 = .ok (.iload_n 1, 1) := dk_27 (dk_at dksX8_binds_3 20 rfl rfl)
theorem dX8_binds_90 : decode cX8_binds 90 = .ok (.iload_n 2, 1) := dk_28 (dk_at dksX8_binds_3 21 rfl rfl)
theorem dX8_binds_91 : decode cX8_binds 91 = .ok (.iload 6, 2) := dk_21 6 (dk_at dksX8_binds_3 22 rfl rfl)
theorem dX8_binds_93 : decode cX8_binds 93 = .ok (.iload 7, 2) := dk_21 7 (dk_at dksX8_binds_4 0 rfl rfl)
theorem dX8_binds_95 : decode cX8_binds 95 = .ok (.invokevirtual 370, 3) := dk_182 1 114 (dk_at dksX8_binds_4 2 rfl rfl)
theorem dX8_binds_98 : decode cX8_binds 98 = .ok (.iload 5, 2) := dk_21 5 (dk_at dksX8_binds_4 5 rfl rfl)
theorem dX8_binds_100 : decode cX8_binds 100 = .ok (.ifCond .ne 10, 3) := dk_154 0 10 (dk_at dksX8_binds_4 7 rfl rfl)
theorem dX8_binds_103 : decode cX8_binds 103 = .ok (.aload_n 0, 1) := dk_42 (dk_at dksX8_binds_4 10 rfl rfl)
theorem dX8_binds_104 : decode cX8_binds 104 = .ok (.getfield 352, 3) := dk_180 1 96 (dk_at dksX8_binds_4 11 rfl rfl)
theorem dX8_binds_107 : decode cX8_binds 107 = .ok (.ifCond .eq 7, 3) := dk_153 0 7 (dk_at dksX8_binds_4 14 rfl rfl)
theorem dX8_binds_110 : decode cX8_binds 110 = .ok (.iconst 1, 1) := dk_4 (dk_at dksX8_binds_4 17 rfl rfl)
theorem dX8_binds_111 : decode cX8_binds 111 = .ok (.goto 4, 3) := dk_167 0 4 (dk_at dksX8_binds_4 18 rfl rfl)
theorem dX8_binds_114 : decode cX8_binds 114 = .ok (.iconst 0, 1) := dk_3 (dk_at dksX8_binds_4 21 rfl rfl)
theorem dX8_binds_115 : decode cX8_binds 115 = .ok (.istore 5, 2) := dk_54 5 (dk_at dksX8_binds_4 22 rfl rfl)
theorem dX8_binds_117 : decode cX8_binds 117 = .ok (.iload 7, 2) := dk_21 7 (dk_at dksX8_binds_5 0 rfl rfl)
theorem dX8_binds_119 : decode cX8_binds 119 = .ok (.aload_n 0, 1) := dk_42 (dk_at dksX8_binds_5 2 rfl rfl)
theorem dX8_binds_120 : decode cX8_binds 120 = .ok (.getfield 396, 3) := dk_180 1 140 (dk_at dksX8_binds_5 3 rfl rfl)
theorem dX8_binds_123 : decode cX8_binds 123 = .ok (.if_icmp .ge 29, 3) := dk_162 0 29 (dk_at dksX8_binds_5 6 rfl rfl)
theorem dX8_binds_126 : decode cX8_binds 126 = .ok (.aload_n 0, 1) := dk_42 (dk_at dksX8_binds_5 9 rfl rfl)
theorem dX8_binds_127 : decode cX8_binds 127 = .ok (.getfield 345, 3) := dk_180 1 89 (dk_at dksX8_binds_5 10 rfl rfl)
theorem dX8_binds_130 : decode cX8_binds 130 = .ok (.iload 4, 2) := dk_21 4 (dk_at dksX8_binds_5 13 rfl rfl)
theorem dX8_binds_132 : decode cX8_binds 132 = .ok (.if_icmp .lt 20, 3) := dk_161 0 20 (dk_at dksX8_binds_5 15 rfl rfl)
theorem dX8_binds_135 : decode cX8_binds 135 = .ok (.iconst 2, 1) := dk_5 (dk_at dksX8_binds_5 18 rfl rfl)
theorem dX8_binds_136 : decode cX8_binds 136 = .ok (.aload_n 0, 1) := dk_42 (dk_at dksX8_binds_5 19 rfl rfl)
theorem dX8_binds_137 : decode cX8_binds 137 = .ok (.iload_n 1, 1) := dk_27 (dk_at dksX8_binds_5 20 rfl rfl)
theorem dX8_binds_138 : decode cX8_binds 138 = .ok (.invokevirtual 405, 3) := dk_182 1 149 (dk_at dksX8_binds_5 21 rfl rfl)
theorem dX8_binds_141 : decode cX8_binds 141 = .ok (.ifCond .eq 8, 3) := dk_153 0 8 (dk_at dksX8_binds_6 0 rfl rfl)
theorem dX8_binds_144 : decode cX8_binds 144 = .ok (.bipush 10, 2) := dk_16 10 (dk_at dksX8_binds_6 3 rfl rfl)
theorem dX8_binds_146 : decode cX8_binds 146 = .ok (.goto 4, 3) := dk_167 0 4 (dk_at dksX8_binds_6 5 rfl rfl)
theorem dX8_binds_149 : decode cX8_binds 149 = .ok (.iconst 0, 1) := dk_3 (dk_at dksX8_binds_6 8 rfl rfl)
theorem dX8_binds_150 : decode cX8_binds 150 = .ok (.iadd, 1) := dk_96 (dk_at dksX8_binds_6 9 rfl rfl)
theorem dX8_binds_151 : decode cX8_binds 151 = .ok (.ireturn, 1) := dk_172 (dk_at dksX8_binds_6 10 rfl rfl)
theorem dX8_binds_152 : decode cX8_binds 152 = .ok (.iinc 6 4, 3) := dk_132 6 4 (dk_at dksX8_binds_6 11 rfl rfl)
theorem dX8_binds_155 : decode cX8_binds 155 = .ok (.goto (-111), 3) := dk_167 255 145 (dk_at dksX8_binds_6 14 rfl rfl)
theorem dX8_binds_158 : decode cX8_binds 158 = .ok (.iconst 1, 1) := dk_4 (dk_at dksX8_binds_6 17 rfl rfl)
theorem dX8_binds_159 : decode cX8_binds 159 = .ok (.iload 5, 2) := dk_21 5 (dk_at dksX8_binds_6 18 rfl rfl)
theorem dX8_binds_161 : decode cX8_binds 161 = .ok (.ifCond .eq 8, 3) := dk_153 0 8 (dk_at dksX8_binds_6 20 rfl rfl)
theorem dX8_binds_164 : decode cX8_binds 164 = .ok (.bipush 10, 2) := dk_16 10 (dk_at dksX8_binds_7 0 rfl rfl)
theorem dX8_binds_166 : decode cX8_binds 166 = .ok (.goto 4, 3) := dk_167 0 4 (dk_at dksX8_binds_7 2 rfl rfl)
theorem dX8_binds_169 : decode cX8_binds 169 = .ok (.iconst 0, 1) := dk_3 (dk_at dksX8_binds_7 5 rfl rfl)
theorem dX8_binds_170 : decode cX8_binds 170 = .ok (.iadd, 1) := dk_96 (dk_at dksX8_binds_7 6 rfl rfl)
theorem dX8_binds_171 : decode cX8_binds 171 = .ok (.ireturn, 1) := dk_172 (dk_at dksX8_binds_7 7 rfl rfl)
abbrev cX8_requests : ByteArray := prog_20_method_53_code
def yX8_requests : MethodName := ⟨RX8, "requests", "(I)Z"⟩
def dkwX8_requests_1 : List UInt8 := [167, 255, 236, 28, 5, 160, 0, 7, 4, 167, 0, 4, 3, 172]
abbrev dktX8_requests_1 : List UInt8 := dkwX8_requests_1 ++ []
def dkwX8_requests_0 : List UInt8 := [4, 61, 3, 62, 29, 6, 162, 0, 21, 28, 4, 160, 0, 16, 42, 27, 4, 182, 1, 92, 61, 132, 3, 1]
abbrev dktX8_requests_0 : List UInt8 := dkwX8_requests_0 ++ dktX8_requests_1
theorem dksX8_requests_0 : cX8_requests.data.toList.drop 0 = dktX8_requests_0 := by decide +kernel
theorem dksX8_requests_1 : cX8_requests.data.toList.drop 24 = dktX8_requests_1 := dk_seg dksX8_requests_0 24 rfl rfl
theorem dX8_requests_0 : decode cX8_requests 0 = .ok (.iconst 1, 1) := dk_4 (dk_at dksX8_requests_0 0 rfl rfl)
theorem dX8_requests_1 : decode cX8_requests 1 = .ok (.istore_n 2, 1) := dk_61 (dk_at dksX8_requests_0 1 rfl rfl)
theorem dX8_requests_2 : decode cX8_requests 2 = .ok (.iconst 0, 1) := dk_3 (dk_at dksX8_requests_0 2 rfl rfl)
theorem dX8_requests_3 : decode cX8_requests 3 = .ok (.istore_n 3, 1) := dk_62 (dk_at dksX8_requests_0 3 rfl rfl)
theorem dX8_requests_4 : decode cX8_requests 4 = .ok (.iload_n 3, 1) := dk_29 (dk_at dksX8_requests_0 4 rfl rfl)
theorem dX8_requests_5 : decode cX8_requests 5 = .ok (.iconst 3, 1) := dk_6 (dk_at dksX8_requests_0 5 rfl rfl)
theorem dX8_requests_6 : decode cX8_requests 6 = .ok (.if_icmp .ge 21, 3) := dk_162 0 21 (dk_at dksX8_requests_0 6 rfl rfl)
theorem dX8_requests_9 : decode cX8_requests 9 = .ok (.iload_n 2, 1) := dk_28 (dk_at dksX8_requests_0 9 rfl rfl)
theorem dX8_requests_10 : decode cX8_requests 10 = .ok (.iconst 1, 1) := dk_4 (dk_at dksX8_requests_0 10 rfl rfl)
theorem dX8_requests_11 : decode cX8_requests 11 = .ok (.if_icmp .ne 16, 3) := dk_160 0 16 (dk_at dksX8_requests_0 11 rfl rfl)
theorem dX8_requests_14 : decode cX8_requests 14 = .ok (.aload_n 0, 1) := dk_42 (dk_at dksX8_requests_0 14 rfl rfl)
theorem dX8_requests_15 : decode cX8_requests 15 = .ok (.iload_n 1, 1) := dk_27 (dk_at dksX8_requests_0 15 rfl rfl)
theorem dX8_requests_16 : decode cX8_requests 16 = .ok (.iconst 1, 1) := dk_4 (dk_at dksX8_requests_0 16 rfl rfl)
theorem dX8_requests_17 : decode cX8_requests 17 = .ok (.invokevirtual 348, 3) := dk_182 1 92 (dk_at dksX8_requests_0 17 rfl rfl)
theorem dX8_requests_20 : decode cX8_requests 20 = .ok (.istore_n 2, 1) := dk_61 (dk_at dksX8_requests_0 20 rfl rfl)
theorem dX8_requests_21 : decode cX8_requests 21 = .ok (.iinc 3 1, 3) := dk_132 3 1 (dk_at dksX8_requests_0 21 rfl rfl)
theorem dX8_requests_24 : decode cX8_requests 24 = .ok (.goto (-20), 3) := dk_167 255 236 (dk_at dksX8_requests_1 0 rfl rfl)
theorem dX8_requests_27 : decode cX8_requests 27 = .ok (.iload_n 2, 1) := dk_28 (dk_at dksX8_requests_1 3 rfl rfl)
theorem dX8_requests_28 : decode cX8_requests 28 = .ok (.iconst 2, 1) := dk_5 (dk_at dksX8_requests_1 4 rfl rfl)
theorem dX8_requests_29 : decode cX8_requests 29 = .ok (.if_icmp .ne 7, 3) := dk_160 0 7 (dk_at dksX8_requests_1 5 rfl rfl)
theorem dX8_requests_32 : decode cX8_requests 32 = .ok (.iconst 1, 1) := dk_4 (dk_at dksX8_requests_1 8 rfl rfl)
theorem dX8_requests_33 : decode cX8_requests 33 = .ok (.goto 4, 3) := dk_167 0 4 (dk_at dksX8_requests_1 9 rfl rfl)
theorem dX8_requests_36 : decode cX8_requests 36 = .ok (.iconst 0, 1) := dk_3 (dk_at dksX8_requests_1 12 rfl rfl)
theorem dX8_requests_37 : decode cX8_requests 37 = .ok (.ireturn, 1) := dk_172 (dk_at dksX8_requests_1 13 rfl rfl)
abbrev cX8_tries : ByteArray := prog_20_method_51_code
def yX8_tries : MethodName := ⟨RX8, "tries", "(IZ)I"⟩
def dkwX8_tries_7 : List UInt8 := [4, 100, 79, 4, 172, 5, 172]
abbrev dktX8_tries_7 : List UInt8 := dkwX8_tries_7 ++ []
def dkwX8_tries_6 : List UInt8 := [180, 0, 53, 27, 46, 182, 1, 83, 42, 180, 0, 40, 27, 46, 158, 0, 15, 42, 180, 0, 40, 27, 92, 46]
abbrev dktX8_tries_6 : List UInt8 := dkwX8_tries_6 ++ dktX8_tries_7
def dkwX8_tries_5 : List UInt8 := [180, 0, 25, 27, 46, 182, 1, 40, 28, 153, 0, 23, 42, 89, 180, 1, 80, 4, 96, 181, 1, 80, 42, 42]
abbrev dktX8_tries_5 : List UInt8 := dkwX8_tries_5 ++ dktX8_tries_6
def dkwX8_tries_4 : List UInt8 := [27, 46, 4, 96, 167, 0, 4, 4, 79, 42, 180, 0, 47, 27, 42, 180, 0, 235, 16, 10, 108, 79, 42, 42]
abbrev dktX8_tries_4 : List UInt8 := dkwX8_tries_4 ++ dktX8_tries_5
def dkwX8_tries_3 : List UInt8 := [180, 0, 50, 27, 42, 180, 0, 47, 27, 46, 42, 180, 0, 235, 16, 10, 108, 160, 0, 14, 42, 180, 0, 50]
abbrev dktX8_tries_3 : List UInt8 := dkwX8_tries_3 ++ dktX8_tries_4
def dkwX8_tries_2 : List UInt8 := [153, 0, 21, 42, 180, 0, 235, 42, 180, 1, 74, 100, 42, 180, 1, 77, 164, 0, 5, 3, 172, 42]
abbrev dktX8_tries_2 : List UInt8 := dkwX8_tries_2 ++ dktX8_tries_3
def dkwX8_tries_1 : List UInt8 := [180, 0, 31, 27, 46, 161, 0, 17, 42, 16, 10, 42, 180, 0, 235, 16, 10, 112, 100, 182, 1, 40, 28]
abbrev dktX8_tries_1 : List UInt8 := dkwX8_tries_1 ++ dktX8_tries_2
def dkwX8_tries_0 : List UInt8 := [42, 180, 0, 47, 27, 46, 42, 180, 0, 235, 16, 10, 108, 160, 0, 32, 42, 180, 0, 50, 27, 46, 42]
abbrev dktX8_tries_0 : List UInt8 := dkwX8_tries_0 ++ dktX8_tries_1
theorem dksX8_tries_0 : cX8_tries.data.toList.drop 0 = dktX8_tries_0 := by decide +kernel
theorem dksX8_tries_1 : cX8_tries.data.toList.drop 23 = dktX8_tries_1 := dk_seg dksX8_tries_0 23 rfl rfl
theorem dksX8_tries_2 : cX8_tries.data.toList.drop 46 = dktX8_tries_2 := dk_seg dksX8_tries_1 23 rfl rfl
theorem dksX8_tries_3 : cX8_tries.data.toList.drop 68 = dktX8_tries_3 := dk_seg dksX8_tries_2 22 rfl rfl
theorem dksX8_tries_4 : cX8_tries.data.toList.drop 92 = dktX8_tries_4 := dk_seg dksX8_tries_3 24 rfl rfl
theorem dksX8_tries_5 : cX8_tries.data.toList.drop 116 = dktX8_tries_5 := dk_seg dksX8_tries_4 24 rfl rfl
theorem dksX8_tries_6 : cX8_tries.data.toList.drop 140 = dktX8_tries_6 := dk_seg dksX8_tries_5 24 rfl rfl
theorem dksX8_tries_7 : cX8_tries.data.toList.drop 164 = dktX8_tries_7 := dk_seg dksX8_tries_6 24 rfl rfl
theorem dX8_tries_0 : decode cX8_tries 0 = .ok (.aload_n 0, 1) := dk_42 (dk_at dksX8_tries_0 0 rfl rfl)
theorem dX8_tries_1 : decode cX8_tries 1 = .ok (.getfield 47, 3) := dk_180 0 47 (dk_at dksX8_tries_0 1 rfl rfl)
theorem dX8_tries_4 : decode cX8_tries 4 = .ok (.iload_n 1, 1) := dk_27 (dk_at dksX8_tries_0 4 rfl rfl)
theorem dX8_tries_5 : decode cX8_tries 5 = .ok (.iaload, 1) := dk_46 (dk_at dksX8_tries_0 5 rfl rfl)
theorem dX8_tries_6 : decode cX8_tries 6 = .ok (.aload_n 0, 1) := dk_42 (dk_at dksX8_tries_0 6 rfl rfl)
theorem dX8_tries_7 : decode cX8_tries 7 = .ok (.getfield 235, 3) := dk_180 0 235 (dk_at dksX8_tries_0 7 rfl rfl)
theorem dX8_tries_10 : decode cX8_tries 10 = .ok (.bipush 10, 2) := dk_16 10 (dk_at dksX8_tries_0 10 rfl rfl)
theorem dX8_tries_12 : decode cX8_tries 12 = .ok (.idiv, 1) := dk_108 (dk_at dksX8_tries_0 12 rfl rfl)
theorem dX8_tries_13 : decode cX8_tries 13 = .ok (.if_icmp .ne 32, 3) := dk_160 0 32 (dk_at dksX8_tries_0 13 rfl rfl)
theorem dX8_tries_16 : decode cX8_tries 16 = .ok (.aload_n 0, 1) := dk_42 (dk_at dksX8_tries_0 16 rfl rfl)
theorem dX8_tries_17 : decode cX8_tries 17 = .ok (.getfield 50, 3) := dk_180 0 50 (dk_at dksX8_tries_0 17 rfl rfl)
theorem dX8_tries_20 : decode cX8_tries 20 = .ok (.iload_n 1, 1) := dk_27 (dk_at dksX8_tries_0 20 rfl rfl)
theorem dX8_tries_21 : decode cX8_tries 21 = .ok (.iaload, 1) := dk_46 (dk_at dksX8_tries_0 21 rfl rfl)
theorem dX8_tries_22 : decode cX8_tries 22 = .ok (.aload_n 0, 1) := dk_42 (dk_at dksX8_tries_0 22 rfl rfl)
theorem dX8_tries_23 : decode cX8_tries 23 = .ok (.getfield 31, 3) := dk_180 0 31 (dk_at dksX8_tries_1 0 rfl rfl)
theorem dX8_tries_26 : decode cX8_tries 26 = .ok (.iload_n 1, 1) := dk_27 (dk_at dksX8_tries_1 3 rfl rfl)
theorem dX8_tries_27 : decode cX8_tries 27 = .ok (.iaload, 1) := dk_46 (dk_at dksX8_tries_1 4 rfl rfl)
theorem dX8_tries_28 : decode cX8_tries 28 = .ok (.if_icmp .lt 17, 3) := dk_161 0 17 (dk_at dksX8_tries_1 5 rfl rfl)
theorem dX8_tries_31 : decode cX8_tries 31 = .ok (.aload_n 0, 1) := dk_42 (dk_at dksX8_tries_1 8 rfl rfl)
theorem dX8_tries_32 : decode cX8_tries 32 = .ok (.bipush 10, 2) := dk_16 10 (dk_at dksX8_tries_1 9 rfl rfl)
theorem dX8_tries_34 : decode cX8_tries 34 = .ok (.aload_n 0, 1) := dk_42 (dk_at dksX8_tries_1 11 rfl rfl)
theorem dX8_tries_35 : decode cX8_tries 35 = .ok (.getfield 235, 3) := dk_180 0 235 (dk_at dksX8_tries_1 12 rfl rfl)
theorem dX8_tries_38 : decode cX8_tries 38 = .ok (.bipush 10, 2) := dk_16 10 (dk_at dksX8_tries_1 15 rfl rfl)
theorem dX8_tries_40 : decode cX8_tries 40 = .ok (.irem, 1) := dk_112 (dk_at dksX8_tries_1 17 rfl rfl)
theorem dX8_tries_41 : decode cX8_tries 41 = .ok (.isub, 1) := dk_100 (dk_at dksX8_tries_1 18 rfl rfl)
theorem dX8_tries_42 : decode cX8_tries 42 = .ok (.invokevirtual 296, 3) := dk_182 1 40 (dk_at dksX8_tries_1 19 rfl rfl)
theorem dX8_tries_45 : decode cX8_tries 45 = .ok (.iload_n 2, 1) := dk_28 (dk_at dksX8_tries_1 22 rfl rfl)
theorem dX8_tries_46 : decode cX8_tries 46 = .ok (.ifCond .eq 21, 3) := dk_153 0 21 (dk_at dksX8_tries_2 0 rfl rfl)
theorem dX8_tries_49 : decode cX8_tries 49 = .ok (.aload_n 0, 1) := dk_42 (dk_at dksX8_tries_2 3 rfl rfl)
theorem dX8_tries_50 : decode cX8_tries 50 = .ok (.getfield 235, 3) := dk_180 0 235 (dk_at dksX8_tries_2 4 rfl rfl)
theorem dX8_tries_53 : decode cX8_tries 53 = .ok (.aload_n 0, 1) := dk_42 (dk_at dksX8_tries_2 7 rfl rfl)
theorem dX8_tries_54 : decode cX8_tries 54 = .ok (.getfield 330, 3) := dk_180 1 74 (dk_at dksX8_tries_2 8 rfl rfl)
theorem dX8_tries_57 : decode cX8_tries 57 = .ok (.isub, 1) := dk_100 (dk_at dksX8_tries_2 11 rfl rfl)
theorem dX8_tries_58 : decode cX8_tries 58 = .ok (.aload_n 0, 1) := dk_42 (dk_at dksX8_tries_2 12 rfl rfl)
theorem dX8_tries_59 : decode cX8_tries 59 = .ok (.getfield 333, 3) := dk_180 1 77 (dk_at dksX8_tries_2 13 rfl rfl)
theorem dX8_tries_62 : decode cX8_tries 62 = .ok (.if_icmp .le 5, 3) := dk_164 0 5 (dk_at dksX8_tries_2 16 rfl rfl)
theorem dX8_tries_65 : decode cX8_tries 65 = .ok (.iconst 0, 1) := dk_3 (dk_at dksX8_tries_2 19 rfl rfl)
theorem dX8_tries_66 : decode cX8_tries 66 = .ok (.ireturn, 1) := dk_172 (dk_at dksX8_tries_2 20 rfl rfl)
theorem dX8_tries_67 : decode cX8_tries 67 = .ok (.aload_n 0, 1) := dk_42 (dk_at dksX8_tries_2 21 rfl rfl)
theorem dX8_tries_68 : decode cX8_tries 68 = .ok (.getfield 50, 3) := dk_180 0 50 (dk_at dksX8_tries_3 0 rfl rfl)
theorem dX8_tries_71 : decode cX8_tries 71 = .ok (.iload_n 1, 1) := dk_27 (dk_at dksX8_tries_3 3 rfl rfl)
theorem dX8_tries_72 : decode cX8_tries 72 = .ok (.aload_n 0, 1) := dk_42 (dk_at dksX8_tries_3 4 rfl rfl)
theorem dX8_tries_73 : decode cX8_tries 73 = .ok (.getfield 47, 3) := dk_180 0 47 (dk_at dksX8_tries_3 5 rfl rfl)
theorem dX8_tries_76 : decode cX8_tries 76 = .ok (.iload_n 1, 1) := dk_27 (dk_at dksX8_tries_3 8 rfl rfl)
theorem dX8_tries_77 : decode cX8_tries 77 = .ok (.iaload, 1) := dk_46 (dk_at dksX8_tries_3 9 rfl rfl)
theorem dX8_tries_78 : decode cX8_tries 78 = .ok (.aload_n 0, 1) := dk_42 (dk_at dksX8_tries_3 10 rfl rfl)
theorem dX8_tries_79 : decode cX8_tries 79 = .ok (.getfield 235, 3) := dk_180 0 235 (dk_at dksX8_tries_3 11 rfl rfl)
theorem dX8_tries_82 : decode cX8_tries 82 = .ok (.bipush 10, 2) := dk_16 10 (dk_at dksX8_tries_3 14 rfl rfl)
theorem dX8_tries_84 : decode cX8_tries 84 = .ok (.idiv, 1) := dk_108 (dk_at dksX8_tries_3 16 rfl rfl)
theorem dX8_tries_85 : decode cX8_tries 85 = .ok (.if_icmp .ne 14, 3) := dk_160 0 14 (dk_at dksX8_tries_3 17 rfl rfl)
theorem dX8_tries_88 : decode cX8_tries 88 = .ok (.aload_n 0, 1) := dk_42 (dk_at dksX8_tries_3 20 rfl rfl)
theorem dX8_tries_89 : decode cX8_tries 89 = .ok (.getfield 50, 3) := dk_180 0 50 (dk_at dksX8_tries_3 21 rfl rfl)
theorem dX8_tries_92 : decode cX8_tries 92 = .ok (.iload_n 1, 1) := dk_27 (dk_at dksX8_tries_4 0 rfl rfl)
theorem dX8_tries_93 : decode cX8_tries 93 = .ok (.iaload, 1) := dk_46 (dk_at dksX8_tries_4 1 rfl rfl)
theorem dX8_tries_94 : decode cX8_tries 94 = .ok (.iconst 1, 1) := dk_4 (dk_at dksX8_tries_4 2 rfl rfl)
theorem dX8_tries_95 : decode cX8_tries 95 = .ok (.iadd, 1) := dk_96 (dk_at dksX8_tries_4 3 rfl rfl)
theorem dX8_tries_96 : decode cX8_tries 96 = .ok (.goto 4, 3) := dk_167 0 4 (dk_at dksX8_tries_4 4 rfl rfl)
theorem dX8_tries_99 : decode cX8_tries 99 = .ok (.iconst 1, 1) := dk_4 (dk_at dksX8_tries_4 7 rfl rfl)
theorem dX8_tries_100 : decode cX8_tries 100 = .ok (.iastore, 1) := dk_79 (dk_at dksX8_tries_4 8 rfl rfl)
theorem dX8_tries_101 : decode cX8_tries 101 = .ok (.aload_n 0, 1) := dk_42 (dk_at dksX8_tries_4 9 rfl rfl)
theorem dX8_tries_102 : decode cX8_tries 102 = .ok (.getfield 47, 3) := dk_180 0 47 (dk_at dksX8_tries_4 10 rfl rfl)
theorem dX8_tries_105 : decode cX8_tries 105 = .ok (.iload_n 1, 1) := dk_27 (dk_at dksX8_tries_4 13 rfl rfl)
theorem dX8_tries_106 : decode cX8_tries 106 = .ok (.aload_n 0, 1) := dk_42 (dk_at dksX8_tries_4 14 rfl rfl)
theorem dX8_tries_107 : decode cX8_tries 107 = .ok (.getfield 235, 3) := dk_180 0 235 (dk_at dksX8_tries_4 15 rfl rfl)
theorem dX8_tries_110 : decode cX8_tries 110 = .ok (.bipush 10, 2) := dk_16 10 (dk_at dksX8_tries_4 18 rfl rfl)
theorem dX8_tries_112 : decode cX8_tries 112 = .ok (.idiv, 1) := dk_108 (dk_at dksX8_tries_4 20 rfl rfl)
theorem dX8_tries_113 : decode cX8_tries 113 = .ok (.iastore, 1) := dk_79 (dk_at dksX8_tries_4 21 rfl rfl)
theorem dX8_tries_114 : decode cX8_tries 114 = .ok (.aload_n 0, 1) := dk_42 (dk_at dksX8_tries_4 22 rfl rfl)
theorem dX8_tries_115 : decode cX8_tries 115 = .ok (.aload_n 0, 1) := dk_42 (dk_at dksX8_tries_4 23 rfl rfl)
theorem dX8_tries_116 : decode cX8_tries 116 = .ok (.getfield 25, 3) := dk_180 0 25 (dk_at dksX8_tries_5 0 rfl rfl)
theorem dX8_tries_119 : decode cX8_tries 119 = .ok (.iload_n 1, 1) := dk_27 (dk_at dksX8_tries_5 3 rfl rfl)
theorem dX8_tries_120 : decode cX8_tries 120 = .ok (.iaload, 1) := dk_46 (dk_at dksX8_tries_5 4 rfl rfl)
theorem dX8_tries_121 : decode cX8_tries 121 = .ok (.invokevirtual 296, 3) := dk_182 1 40 (dk_at dksX8_tries_5 5 rfl rfl)
theorem dX8_tries_124 : decode cX8_tries 124 = .ok (.iload_n 2, 1) := dk_28 (dk_at dksX8_tries_5 8 rfl rfl)
theorem dX8_tries_125 : decode cX8_tries 125 = .ok (.ifCond .eq 23, 3) := dk_153 0 23 (dk_at dksX8_tries_5 9 rfl rfl)
theorem dX8_tries_128 : decode cX8_tries 128 = .ok (.aload_n 0, 1) := dk_42 (dk_at dksX8_tries_5 12 rfl rfl)
theorem dX8_tries_129 : decode cX8_tries 129 = .ok (.dup, 1) := dk_89 (dk_at dksX8_tries_5 13 rfl rfl)
theorem dX8_tries_130 : decode cX8_tries 130 = .ok (.getfield 336, 3) := dk_180 1 80 (dk_at dksX8_tries_5 14 rfl rfl)
theorem dX8_tries_133 : decode cX8_tries 133 = .ok (.iconst 1, 1) := dk_4 (dk_at dksX8_tries_5 17 rfl rfl)
theorem dX8_tries_134 : decode cX8_tries 134 = .ok (.iadd, 1) := dk_96 (dk_at dksX8_tries_5 18 rfl rfl)
theorem dX8_tries_135 : decode cX8_tries 135 = .ok (.putfield 336, 3) := dk_181 1 80 (dk_at dksX8_tries_5 19 rfl rfl)
theorem dX8_tries_138 : decode cX8_tries 138 = .ok (.aload_n 0, 1) := dk_42 (dk_at dksX8_tries_5 22 rfl rfl)
theorem dX8_tries_139 : decode cX8_tries 139 = .ok (.aload_n 0, 1) := dk_42 (dk_at dksX8_tries_5 23 rfl rfl)
theorem dX8_tries_140 : decode cX8_tries 140 = .ok (.getfield 53, 3) := dk_180 0 53 (dk_at dksX8_tries_6 0 rfl rfl)
theorem dX8_tries_143 : decode cX8_tries 143 = .ok (.iload_n 1, 1) := dk_27 (dk_at dksX8_tries_6 3 rfl rfl)
theorem dX8_tries_144 : decode cX8_tries 144 = .ok (.iaload, 1) := dk_46 (dk_at dksX8_tries_6 4 rfl rfl)
theorem dX8_tries_145 : decode cX8_tries 145 = .ok (.invokevirtual 339, 3) := dk_182 1 83 (dk_at dksX8_tries_6 5 rfl rfl)
theorem dX8_tries_148 : decode cX8_tries 148 = .ok (.aload_n 0, 1) := dk_42 (dk_at dksX8_tries_6 8 rfl rfl)
theorem dX8_tries_149 : decode cX8_tries 149 = .ok (.getfield 40, 3) := dk_180 0 40 (dk_at dksX8_tries_6 9 rfl rfl)
theorem dX8_tries_152 : decode cX8_tries 152 = .ok (.iload_n 1, 1) := dk_27 (dk_at dksX8_tries_6 12 rfl rfl)
theorem dX8_tries_153 : decode cX8_tries 153 = .ok (.iaload, 1) := dk_46 (dk_at dksX8_tries_6 13 rfl rfl)
theorem dX8_tries_154 : decode cX8_tries 154 = .ok (.ifCond .le 15, 3) := dk_158 0 15 (dk_at dksX8_tries_6 14 rfl rfl)
theorem dX8_tries_157 : decode cX8_tries 157 = .ok (.aload_n 0, 1) := dk_42 (dk_at dksX8_tries_6 17 rfl rfl)
theorem dX8_tries_158 : decode cX8_tries 158 = .ok (.getfield 40, 3) := dk_180 0 40 (dk_at dksX8_tries_6 18 rfl rfl)
theorem dX8_tries_161 : decode cX8_tries 161 = .ok (.iload_n 1, 1) := dk_27 (dk_at dksX8_tries_6 21 rfl rfl)
theorem dX8_tries_162 : decode cX8_tries 162 = .ok (.dup2, 1) := dk_92 (dk_at dksX8_tries_6 22 rfl rfl)
theorem dX8_tries_163 : decode cX8_tries 163 = .ok (.iaload, 1) := dk_46 (dk_at dksX8_tries_6 23 rfl rfl)
theorem dX8_tries_164 : decode cX8_tries 164 = .ok (.iconst 1, 1) := dk_4 (dk_at dksX8_tries_7 0 rfl rfl)
theorem dX8_tries_165 : decode cX8_tries 165 = .ok (.isub, 1) := dk_100 (dk_at dksX8_tries_7 1 rfl rfl)
theorem dX8_tries_166 : decode cX8_tries 166 = .ok (.iastore, 1) := dk_79 (dk_at dksX8_tries_7 2 rfl rfl)
theorem dX8_tries_167 : decode cX8_tries 167 = .ok (.iconst 1, 1) := dk_4 (dk_at dksX8_tries_7 3 rfl rfl)
theorem dX8_tries_168 : decode cX8_tries 168 = .ok (.ireturn, 1) := dk_172 (dk_at dksX8_tries_7 4 rfl rfl)
theorem dX8_tries_169 : decode cX8_tries 169 = .ok (.iconst 2, 1) := dk_5 (dk_at dksX8_tries_7 5 rfl rfl)
theorem dX8_tries_170 : decode cX8_tries 170 = .ok (.ireturn, 1) := dk_172 (dk_at dksX8_tries_7 6 rfl rfl)
abbrev cX8_pays : ByteArray := prog_20_method_52_code
def yX8_pays : MethodName := ⟨RX8, "pays", "(I)V"⟩
def dkwX8_pays_0 : List UInt8 := [42, 89, 180, 1, 86, 27, 96, 181, 1, 86, 42, 89, 180, 1, 89, 27, 96, 181, 1, 89, 177]
abbrev dktX8_pays_0 : List UInt8 := dkwX8_pays_0 ++ []
theorem dksX8_pays_0 : cX8_pays.data.toList.drop 0 = dktX8_pays_0 := by decide +kernel
theorem dX8_pays_0 : decode cX8_pays 0 = .ok (.aload_n 0, 1) := dk_42 (dk_at dksX8_pays_0 0 rfl rfl)
theorem dX8_pays_1 : decode cX8_pays 1 = .ok (.dup, 1) := dk_89 (dk_at dksX8_pays_0 1 rfl rfl)
theorem dX8_pays_2 : decode cX8_pays 2 = .ok (.getfield 342, 3) := dk_180 1 86 (dk_at dksX8_pays_0 2 rfl rfl)
theorem dX8_pays_5 : decode cX8_pays 5 = .ok (.iload_n 1, 1) := dk_27 (dk_at dksX8_pays_0 5 rfl rfl)
theorem dX8_pays_6 : decode cX8_pays 6 = .ok (.iadd, 1) := dk_96 (dk_at dksX8_pays_0 6 rfl rfl)
theorem dX8_pays_7 : decode cX8_pays 7 = .ok (.putfield 342, 3) := dk_181 1 86 (dk_at dksX8_pays_0 7 rfl rfl)
theorem dX8_pays_10 : decode cX8_pays 10 = .ok (.aload_n 0, 1) := dk_42 (dk_at dksX8_pays_0 10 rfl rfl)
theorem dX8_pays_11 : decode cX8_pays 11 = .ok (.dup, 1) := dk_89 (dk_at dksX8_pays_0 11 rfl rfl)
theorem dX8_pays_12 : decode cX8_pays 12 = .ok (.getfield 345, 3) := dk_180 1 89 (dk_at dksX8_pays_0 12 rfl rfl)
theorem dX8_pays_15 : decode cX8_pays 15 = .ok (.iload_n 1, 1) := dk_27 (dk_at dksX8_pays_0 15 rfl rfl)
theorem dX8_pays_16 : decode cX8_pays 16 = .ok (.iadd, 1) := dk_96 (dk_at dksX8_pays_0 16 rfl rfl)
theorem dX8_pays_17 : decode cX8_pays 17 = .ok (.putfield 345, 3) := dk_181 1 89 (dk_at dksX8_pays_0 17 rfl rfl)
theorem dX8_pays_20 : decode cX8_pays 20 = .ok (.return_, 1) := dk_177 (dk_at dksX8_pays_0 20 rfl rfl)
abbrev cX8_comes : ByteArray := prog_20_method_54_code
def yX8_comes : MethodName := ⟨RX8, "comes", "(IIII)V"⟩
def dkwX8_comes_5 : List UInt8 := [21, 6, 96, 181, 1, 108, 42, 21, 6, 42, 180, 0, 56, 21, 5, 184, 0, 220, 46, 104, 182, 1, 83, 177]
abbrev dktX8_comes_5 : List UInt8 := dkwX8_comes_5 ++ []
def dkwX8_comes_4 : List UInt8 := [167, 0, 13, 42, 27, 21, 7, 182, 1, 105, 132, 6, 1, 132, 7, 1, 167, 255, 166, 42, 89, 180, 1, 108]
abbrev dktX8_comes_4 : List UInt8 := dkwX8_comes_4 ++ dktX8_comes_5
def dkwX8_comes_3 : List UInt8 := [153, 0, 36, 21, 6, 42, 180, 0, 34, 21, 5, 184, 0, 220, 46, 160, 0, 11, 42, 4, 181, 1, 96]
abbrev dktX8_comes_3 : List UInt8 := dkwX8_comes_3 ++ dktX8_comes_4
def dkwX8_comes_2 : List UInt8 := [42, 42, 180, 0, 16, 7, 16, 12, 21, 5, 104, 21, 7, 96, 104, 28, 96, 46, 29, 21, 4, 182, 1, 102]
abbrev dktX8_comes_2 : List UInt8 := dkwX8_comes_2 ++ dktX8_comes_3
def dkwX8_comes_1 : List UInt8 := [180, 0, 7, 21, 5, 46, 162, 0, 84, 42, 27, 21, 7, 182, 1, 99, 153, 0, 68, 28, 2, 159, 0, 30]
abbrev dktX8_comes_1 : List UInt8 := dkwX8_comes_1 ++ dktX8_comes_2
def dkwX8_comes_0 : List UInt8 := [42, 180, 0, 65, 27, 46, 54, 5, 3, 54, 6, 42, 3, 181, 1, 96, 3, 54, 7, 21, 7, 42]
abbrev dktX8_comes_0 : List UInt8 := dkwX8_comes_0 ++ dktX8_comes_1
theorem dksX8_comes_0 : cX8_comes.data.toList.drop 0 = dktX8_comes_0 := by decide +kernel
theorem dksX8_comes_1 : cX8_comes.data.toList.drop 22 = dktX8_comes_1 := dk_seg dksX8_comes_0 22 rfl rfl
theorem dksX8_comes_2 : cX8_comes.data.toList.drop 46 = dktX8_comes_2 := dk_seg dksX8_comes_1 24 rfl rfl
theorem dksX8_comes_3 : cX8_comes.data.toList.drop 70 = dktX8_comes_3 := dk_seg dksX8_comes_2 24 rfl rfl
theorem dksX8_comes_4 : cX8_comes.data.toList.drop 93 = dktX8_comes_4 := dk_seg dksX8_comes_3 23 rfl rfl
theorem dksX8_comes_5 : cX8_comes.data.toList.drop 117 = dktX8_comes_5 := dk_seg dksX8_comes_4 24 rfl rfl
theorem dX8_comes_0 : decode cX8_comes 0 = .ok (.aload_n 0, 1) := dk_42 (dk_at dksX8_comes_0 0 rfl rfl)
theorem dX8_comes_1 : decode cX8_comes 1 = .ok (.getfield 65, 3) := dk_180 0 65 (dk_at dksX8_comes_0 1 rfl rfl)
theorem dX8_comes_4 : decode cX8_comes 4 = .ok (.iload_n 1, 1) := dk_27 (dk_at dksX8_comes_0 4 rfl rfl)
theorem dX8_comes_5 : decode cX8_comes 5 = .ok (.iaload, 1) := dk_46 (dk_at dksX8_comes_0 5 rfl rfl)
theorem dX8_comes_6 : decode cX8_comes 6 = .ok (.istore 5, 2) := dk_54 5 (dk_at dksX8_comes_0 6 rfl rfl)
theorem dX8_comes_8 : decode cX8_comes 8 = .ok (.iconst 0, 1) := dk_3 (dk_at dksX8_comes_0 8 rfl rfl)
theorem dX8_comes_9 : decode cX8_comes 9 = .ok (.istore 6, 2) := dk_54 6 (dk_at dksX8_comes_0 9 rfl rfl)
theorem dX8_comes_11 : decode cX8_comes 11 = .ok (.aload_n 0, 1) := dk_42 (dk_at dksX8_comes_0 11 rfl rfl)
theorem dX8_comes_12 : decode cX8_comes 12 = .ok (.iconst 0, 1) := dk_3 (dk_at dksX8_comes_0 12 rfl rfl)
theorem dX8_comes_13 : decode cX8_comes 13 = .ok (.putfield 352, 3) := dk_181 1 96 (dk_at dksX8_comes_0 13 rfl rfl)
theorem dX8_comes_16 : decode cX8_comes 16 = .ok (.iconst 0, 1) := dk_3 (dk_at dksX8_comes_0 16 rfl rfl)
theorem dX8_comes_17 : decode cX8_comes 17 = .ok (.istore 7, 2) := dk_54 7 (dk_at dksX8_comes_0 17 rfl rfl)
theorem dX8_comes_19 : decode cX8_comes 19 = .ok (.iload 7, 2) := dk_21 7 (dk_at dksX8_comes_0 19 rfl rfl)
theorem dX8_comes_21 : decode cX8_comes 21 = .ok (.aload_n 0, 1) := dk_42 (dk_at dksX8_comes_0 21 rfl rfl)
theorem dX8_comes_22 : decode cX8_comes 22 = .ok (.getfield 7, 3) := dk_180 0 7 (dk_at dksX8_comes_1 0 rfl rfl)
theorem dX8_comes_25 : decode cX8_comes 25 = .ok (.iload 5, 2) := dk_21 5 (dk_at dksX8_comes_1 3 rfl rfl)
theorem dX8_comes_27 : decode cX8_comes 27 = .ok (.iaload, 1) := dk_46 (dk_at dksX8_comes_1 5 rfl rfl)
theorem dX8_comes_28 : decode cX8_comes 28 = .ok (.if_icmp .ge 84, 3) := dk_162 0 84 (dk_at dksX8_comes_1 6 rfl rfl)
theorem dX8_comes_31 : decode cX8_comes 31 = .ok (.aload_n 0, 1) := dk_42 (dk_at dksX8_comes_1 9 rfl rfl)
theorem dX8_comes_32 : decode cX8_comes 32 = .ok (.iload_n 1, 1) := dk_27 (dk_at dksX8_comes_1 10 rfl rfl)
theorem dX8_comes_33 : decode cX8_comes 33 = .ok (.iload 7, 2) := dk_21 7 (dk_at dksX8_comes_1 11 rfl rfl)
theorem dX8_comes_35 : decode cX8_comes 35 = .ok (.invokevirtual 355, 3) := dk_182 1 99 (dk_at dksX8_comes_1 13 rfl rfl)
theorem dX8_comes_38 : decode cX8_comes 38 = .ok (.ifCond .eq 68, 3) := dk_153 0 68 (dk_at dksX8_comes_1 16 rfl rfl)
theorem dX8_comes_41 : decode cX8_comes 41 = .ok (.iload_n 2, 1) := dk_28 (dk_at dksX8_comes_1 19 rfl rfl)
theorem dX8_comes_42 : decode cX8_comes 42 = .ok (.iconst (-1), 1) := dk_2 (dk_at dksX8_comes_1 20 rfl rfl)
theorem dX8_comes_43 : decode cX8_comes 43 = .ok (.if_icmp .eq 30, 3) := dk_159 0 30 (dk_at dksX8_comes_1 21 rfl rfl)
theorem dX8_comes_46 : decode cX8_comes 46 = .ok (.aload_n 0, 1) := dk_42 (dk_at dksX8_comes_2 0 rfl rfl)
theorem dX8_comes_47 : decode cX8_comes 47 = .ok (.aload_n 0, 1) := dk_42 (dk_at dksX8_comes_2 1 rfl rfl)
theorem dX8_comes_48 : decode cX8_comes 48 = .ok (.getfield 16, 3) := dk_180 0 16 (dk_at dksX8_comes_2 2 rfl rfl)
theorem dX8_comes_51 : decode cX8_comes 51 = .ok (.iconst 4, 1) := dk_7 (dk_at dksX8_comes_2 5 rfl rfl)
theorem dX8_comes_52 : decode cX8_comes 52 = .ok (.bipush 12, 2) := dk_16 12 (dk_at dksX8_comes_2 6 rfl rfl)
theorem dX8_comes_54 : decode cX8_comes 54 = .ok (.iload 5, 2) := dk_21 5 (dk_at dksX8_comes_2 8 rfl rfl)
theorem dX8_comes_56 : decode cX8_comes 56 = .ok (.imul, 1) := dk_104 (dk_at dksX8_comes_2 10 rfl rfl)
theorem dX8_comes_57 : decode cX8_comes 57 = .ok (.iload 7, 2) := dk_21 7 (dk_at dksX8_comes_2 11 rfl rfl)
theorem dX8_comes_59 : decode cX8_comes 59 = .ok (.iadd, 1) := dk_96 (dk_at dksX8_comes_2 13 rfl rfl)
theorem dX8_comes_60 : decode cX8_comes 60 = .ok (.imul, 1) := dk_104 (dk_at dksX8_comes_2 14 rfl rfl)
theorem dX8_comes_61 : decode cX8_comes 61 = .ok (.iload_n 2, 1) := dk_28 (dk_at dksX8_comes_2 15 rfl rfl)
theorem dX8_comes_62 : decode cX8_comes 62 = .ok (.iadd, 1) := dk_96 (dk_at dksX8_comes_2 16 rfl rfl)
theorem dX8_comes_63 : decode cX8_comes 63 = .ok (.iaload, 1) := dk_46 (dk_at dksX8_comes_2 17 rfl rfl)
theorem dX8_comes_64 : decode cX8_comes 64 = .ok (.iload_n 3, 1) := dk_29 (dk_at dksX8_comes_2 18 rfl rfl)
theorem dX8_comes_65 : decode cX8_comes 65 = .ok (.iload 4, 2) := dk_21 4 (dk_at dksX8_comes_2 19 rfl rfl)
theorem dX8_comes_67 : decode cX8_comes 67 = .ok (.invokevirtual 358, 3) := dk_182 1 102 (dk_at dksX8_comes_2 21 rfl rfl)
theorem dX8_comes_70 : decode cX8_comes 70 = .ok (.ifCond .eq 36, 3) := dk_153 0 36 (dk_at dksX8_comes_3 0 rfl rfl)
theorem dX8_comes_73 : decode cX8_comes 73 = .ok (.iload 6, 2) := dk_21 6 (dk_at dksX8_comes_3 3 rfl rfl)
theorem dX8_comes_75 : decode cX8_comes 75 = .ok (.aload_n 0, 1) := dk_42 (dk_at dksX8_comes_3 5 rfl rfl)
theorem dX8_comes_76 : decode cX8_comes 76 = .ok (.getfield 34, 3) := dk_180 0 34 (dk_at dksX8_comes_3 6 rfl rfl)
theorem dX8_comes_79 : decode cX8_comes 79 = .ok (.iload 5, 2) := dk_21 5 (dk_at dksX8_comes_3 9 rfl rfl)
theorem dX8_comes_81 : decode cX8_comes 81 = .ok (.invokestatic 220, 3) := dk_184 0 220 (dk_at dksX8_comes_3 11 rfl rfl)
theorem dX8_comes_84 : decode cX8_comes 84 = .ok (.iaload, 1) := dk_46 (dk_at dksX8_comes_3 14 rfl rfl)
theorem dX8_comes_85 : decode cX8_comes 85 = .ok (.if_icmp .ne 11, 3) := dk_160 0 11 (dk_at dksX8_comes_3 15 rfl rfl)
theorem dX8_comes_88 : decode cX8_comes 88 = .ok (.aload_n 0, 1) := dk_42 (dk_at dksX8_comes_3 18 rfl rfl)
theorem dX8_comes_89 : decode cX8_comes 89 = .ok (.iconst 1, 1) := dk_4 (dk_at dksX8_comes_3 19 rfl rfl)
theorem dX8_comes_90 : decode cX8_comes 90 = .ok (.putfield 352, 3) := dk_181 1 96 (dk_at dksX8_comes_3 20 rfl rfl)
theorem dX8_comes_93 : decode cX8_comes 93 = .ok (.goto 13, 3) := dk_167 0 13 (dk_at dksX8_comes_4 0 rfl rfl)
theorem dX8_comes_96 : decode cX8_comes 96 = .ok (.aload_n 0, 1) := dk_42 (dk_at dksX8_comes_4 3 rfl rfl)
theorem dX8_comes_97 : decode cX8_comes 97 = .ok (.iload_n 1, 1) := dk_27 (dk_at dksX8_comes_4 4 rfl rfl)
theorem dX8_comes_98 : decode cX8_comes 98 = .ok (.iload 7, 2) := dk_21 7 (dk_at dksX8_comes_4 5 rfl rfl)
theorem dX8_comes_100 : decode cX8_comes 100 = .ok (.invokevirtual 361, 3) := dk_182 1 105 (dk_at dksX8_comes_4 7 rfl rfl)
theorem dX8_comes_103 : decode cX8_comes 103 = .ok (.iinc 6 1, 3) := dk_132 6 1 (dk_at dksX8_comes_4 10 rfl rfl)
theorem dX8_comes_106 : decode cX8_comes 106 = .ok (.iinc 7 1, 3) := dk_132 7 1 (dk_at dksX8_comes_4 13 rfl rfl)
theorem dX8_comes_109 : decode cX8_comes 109 = .ok (.goto (-90), 3) := dk_167 255 166 (dk_at dksX8_comes_4 16 rfl rfl)
theorem dX8_comes_112 : decode cX8_comes 112 = .ok (.aload_n 0, 1) := dk_42 (dk_at dksX8_comes_4 19 rfl rfl)
theorem dX8_comes_113 : decode cX8_comes 113 = .ok (.dup, 1) := dk_89 (dk_at dksX8_comes_4 20 rfl rfl)
theorem dX8_comes_114 : decode cX8_comes 114 = .ok (.getfield 364, 3) := dk_180 1 108 (dk_at dksX8_comes_4 21 rfl rfl)
theorem dX8_comes_117 : decode cX8_comes 117 = .ok (.iload 6, 2) := dk_21 6 (dk_at dksX8_comes_5 0 rfl rfl)
theorem dX8_comes_119 : decode cX8_comes 119 = .ok (.iadd, 1) := dk_96 (dk_at dksX8_comes_5 2 rfl rfl)
theorem dX8_comes_120 : decode cX8_comes 120 = .ok (.putfield 364, 3) := dk_181 1 108 (dk_at dksX8_comes_5 3 rfl rfl)
theorem dX8_comes_123 : decode cX8_comes 123 = .ok (.aload_n 0, 1) := dk_42 (dk_at dksX8_comes_5 6 rfl rfl)
theorem dX8_comes_124 : decode cX8_comes 124 = .ok (.iload 6, 2) := dk_21 6 (dk_at dksX8_comes_5 7 rfl rfl)
theorem dX8_comes_126 : decode cX8_comes 126 = .ok (.aload_n 0, 1) := dk_42 (dk_at dksX8_comes_5 9 rfl rfl)
theorem dX8_comes_127 : decode cX8_comes 127 = .ok (.getfield 56, 3) := dk_180 0 56 (dk_at dksX8_comes_5 10 rfl rfl)
theorem dX8_comes_130 : decode cX8_comes 130 = .ok (.iload 5, 2) := dk_21 5 (dk_at dksX8_comes_5 13 rfl rfl)
theorem dX8_comes_132 : decode cX8_comes 132 = .ok (.invokestatic 220, 3) := dk_184 0 220 (dk_at dksX8_comes_5 15 rfl rfl)
theorem dX8_comes_135 : decode cX8_comes 135 = .ok (.iaload, 1) := dk_46 (dk_at dksX8_comes_5 18 rfl rfl)
theorem dX8_comes_136 : decode cX8_comes 136 = .ok (.imul, 1) := dk_104 (dk_at dksX8_comes_5 19 rfl rfl)
theorem dX8_comes_137 : decode cX8_comes 137 = .ok (.invokevirtual 339, 3) := dk_182 1 83 (dk_at dksX8_comes_5 20 rfl rfl)
theorem dX8_comes_140 : decode cX8_comes 140 = .ok (.return_, 1) := dk_177 (dk_at dksX8_comes_5 23 rfl rfl)
abbrev cX8_holdSent : ByteArray := prog_20_method_49_code
def yX8_holdSent : MethodName := ⟨RX8, "holdSent", "(II)Z"⟩
def dkwX8_holdSent_3 : List UInt8 := [184, 1, 71, 153, 0, 7, 4, 167, 0, 4, 3, 62, 132, 4, 1, 167, 255, 174, 29, 172]
abbrev dktX8_holdSent_3 : List UInt8 := dkwX8_holdSent_3 ++ []
def dkwX8_holdSent_2 : List UInt8 := [153, 0, 30, 42, 180, 0, 86, 21, 4, 46, 42, 180, 0, 89, 21, 4, 46, 42, 180, 0, 16, 21, 5, 46]
abbrev dktX8_holdSent_2 : List UInt8 := dkwX8_holdSent_2 ++ dktX8_holdSent_3
def dkwX8_holdSent_1 : List UInt8 := [28, 96, 104, 42, 180, 0, 83, 21, 4, 46, 96, 54, 5, 29, 153, 0, 44, 42, 21, 4, 27, 182, 1, 68]
abbrev dktX8_holdSent_1 : List UInt8 := dkwX8_holdSent_1 ++ dktX8_holdSent_2
def dkwX8_holdSent_0 : List UInt8 := [4, 62, 3, 54, 4, 21, 4, 42, 180, 1, 55, 162, 0, 79, 7, 16, 12, 42, 180, 0, 65, 27, 46, 104]
abbrev dktX8_holdSent_0 : List UInt8 := dkwX8_holdSent_0 ++ dktX8_holdSent_1
theorem dksX8_holdSent_0 : cX8_holdSent.data.toList.drop 0 = dktX8_holdSent_0 := by decide +kernel
theorem dksX8_holdSent_1 : cX8_holdSent.data.toList.drop 24 = dktX8_holdSent_1 := dk_seg dksX8_holdSent_0 24 rfl rfl
theorem dksX8_holdSent_2 : cX8_holdSent.data.toList.drop 48 = dktX8_holdSent_2 := dk_seg dksX8_holdSent_1 24 rfl rfl
theorem dksX8_holdSent_3 : cX8_holdSent.data.toList.drop 72 = dktX8_holdSent_3 := dk_seg dksX8_holdSent_2 24 rfl rfl
theorem dX8_holdSent_0 : decode cX8_holdSent 0 = .ok (.iconst 1, 1) := dk_4 (dk_at dksX8_holdSent_0 0 rfl rfl)
theorem dX8_holdSent_1 : decode cX8_holdSent 1 = .ok (.istore_n 3, 1) := dk_62 (dk_at dksX8_holdSent_0 1 rfl rfl)
theorem dX8_holdSent_2 : decode cX8_holdSent 2 = .ok (.iconst 0, 1) := dk_3 (dk_at dksX8_holdSent_0 2 rfl rfl)
theorem dX8_holdSent_3 : decode cX8_holdSent 3 = .ok (.istore 4, 2) := dk_54 4 (dk_at dksX8_holdSent_0 3 rfl rfl)
theorem dX8_holdSent_5 : decode cX8_holdSent 5 = .ok (.iload 4, 2) := dk_21 4 (dk_at dksX8_holdSent_0 5 rfl rfl)
theorem dX8_holdSent_7 : decode cX8_holdSent 7 = .ok (.aload_n 0, 1) := dk_42 (dk_at dksX8_holdSent_0 7 rfl rfl)
theorem dX8_holdSent_8 : decode cX8_holdSent 8 = .ok (.getfield 311, 3) := dk_180 1 55 (dk_at dksX8_holdSent_0 8 rfl rfl)
theorem dX8_holdSent_11 : decode cX8_holdSent 11 = .ok (.if_icmp .ge 79, 3) := dk_162 0 79 (dk_at dksX8_holdSent_0 11 rfl rfl)
theorem dX8_holdSent_14 : decode cX8_holdSent 14 = .ok (.iconst 4, 1) := dk_7 (dk_at dksX8_holdSent_0 14 rfl rfl)
theorem dX8_holdSent_15 : decode cX8_holdSent 15 = .ok (.bipush 12, 2) := dk_16 12 (dk_at dksX8_holdSent_0 15 rfl rfl)
theorem dX8_holdSent_17 : decode cX8_holdSent 17 = .ok (.aload_n 0, 1) := dk_42 (dk_at dksX8_holdSent_0 17 rfl rfl)
theorem dX8_holdSent_18 : decode cX8_holdSent 18 = .ok (.getfield 65, 3) := dk_180 0 65 (dk_at dksX8_holdSent_0 18 rfl rfl)
theorem dX8_holdSent_21 : decode cX8_holdSent 21 = .ok (.iload_n 1, 1) := dk_27 (dk_at dksX8_holdSent_0 21 rfl rfl)
theorem dX8_holdSent_22 : decode cX8_holdSent 22 = .ok (.iaload, 1) := dk_46 (dk_at dksX8_holdSent_0 22 rfl rfl)
theorem dX8_holdSent_23 : decode cX8_holdSent 23 = .ok (.imul, 1) := dk_104 (dk_at dksX8_holdSent_0 23 rfl rfl)
theorem dX8_holdSent_24 : decode cX8_holdSent 24 = .ok (.iload_n 2, 1) := dk_28 (dk_at dksX8_holdSent_1 0 rfl rfl)
theorem dX8_holdSent_25 : decode cX8_holdSent 25 = .ok (.iadd, 1) := dk_96 (dk_at dksX8_holdSent_1 1 rfl rfl)
theorem dX8_holdSent_26 : decode cX8_holdSent 26 = .ok (.imul, 1) := dk_104 (dk_at dksX8_holdSent_1 2 rfl rfl)
theorem dX8_holdSent_27 : decode cX8_holdSent 27 = .ok (.aload_n 0, 1) := dk_42 (dk_at dksX8_holdSent_1 3 rfl rfl)
theorem dX8_holdSent_28 : decode cX8_holdSent 28 = .ok (.getfield 83, 3) := dk_180 0 83 (dk_at dksX8_holdSent_1 4 rfl rfl)
theorem dX8_holdSent_31 : decode cX8_holdSent 31 = .ok (.iload 4, 2) := dk_21 4 (dk_at dksX8_holdSent_1 7 rfl rfl)
theorem dX8_holdSent_33 : decode cX8_holdSent 33 = .ok (.iaload, 1) := dk_46 (dk_at dksX8_holdSent_1 9 rfl rfl)
theorem dX8_holdSent_34 : decode cX8_holdSent 34 = .ok (.iadd, 1) := dk_96 (dk_at dksX8_holdSent_1 10 rfl rfl)
theorem dX8_holdSent_35 : decode cX8_holdSent 35 = .ok (.istore 5, 2) := dk_54 5 (dk_at dksX8_holdSent_1 11 rfl rfl)
theorem dX8_holdSent_37 : decode cX8_holdSent 37 = .ok (.iload_n 3, 1) := dk_29 (dk_at dksX8_holdSent_1 13 rfl rfl)
theorem dX8_holdSent_38 : decode cX8_holdSent 38 = .ok (.ifCond .eq 44, 3) := dk_153 0 44 (dk_at dksX8_holdSent_1 14 rfl rfl)
theorem dX8_holdSent_41 : decode cX8_holdSent 41 = .ok (.aload_n 0, 1) := dk_42 (dk_at dksX8_holdSent_1 17 rfl rfl)
theorem dX8_holdSent_42 : decode cX8_holdSent 42 = .ok (.iload 4, 2) := dk_21 4 (dk_at dksX8_holdSent_1 18 rfl rfl)
theorem dX8_holdSent_44 : decode cX8_holdSent 44 = .ok (.iload_n 1, 1) := dk_27 (dk_at dksX8_holdSent_1 20 rfl rfl)
theorem dX8_holdSent_45 : decode cX8_holdSent 45 = .ok (.invokevirtual 324, 3) := dk_182 1 68 (dk_at dksX8_holdSent_1 21 rfl rfl)
theorem dX8_holdSent_48 : decode cX8_holdSent 48 = .ok (.ifCond .eq 30, 3) := dk_153 0 30 (dk_at dksX8_holdSent_2 0 rfl rfl)
theorem dX8_holdSent_51 : decode cX8_holdSent 51 = .ok (.aload_n 0, 1) := dk_42 (dk_at dksX8_holdSent_2 3 rfl rfl)
theorem dX8_holdSent_52 : decode cX8_holdSent 52 = .ok (.getfield 86, 3) := dk_180 0 86 (dk_at dksX8_holdSent_2 4 rfl rfl)
theorem dX8_holdSent_55 : decode cX8_holdSent 55 = .ok (.iload 4, 2) := dk_21 4 (dk_at dksX8_holdSent_2 7 rfl rfl)
theorem dX8_holdSent_57 : decode cX8_holdSent 57 = .ok (.iaload, 1) := dk_46 (dk_at dksX8_holdSent_2 9 rfl rfl)
theorem dX8_holdSent_58 : decode cX8_holdSent 58 = .ok (.aload_n 0, 1) := dk_42 (dk_at dksX8_holdSent_2 10 rfl rfl)
theorem dX8_holdSent_59 : decode cX8_holdSent 59 = .ok (.getfield 89, 3) := dk_180 0 89 (dk_at dksX8_holdSent_2 11 rfl rfl)
theorem dX8_holdSent_62 : decode cX8_holdSent 62 = .ok (.iload 4, 2) := dk_21 4 (dk_at dksX8_holdSent_2 14 rfl rfl)
theorem dX8_holdSent_64 : decode cX8_holdSent 64 = .ok (.iaload, 1) := dk_46 (dk_at dksX8_holdSent_2 16 rfl rfl)
theorem dX8_holdSent_65 : decode cX8_holdSent 65 = .ok (.aload_n 0, 1) := dk_42 (dk_at dksX8_holdSent_2 17 rfl rfl)
theorem dX8_holdSent_66 : decode cX8_holdSent 66 = .ok (.getfield 16, 3) := dk_180 0 16 (dk_at dksX8_holdSent_2 18 rfl rfl)
theorem dX8_holdSent_69 : decode cX8_holdSent 69 = .ok (.iload 5, 2) := dk_21 5 (dk_at dksX8_holdSent_2 21 rfl rfl)
theorem dX8_holdSent_71 : decode cX8_holdSent 71 = .ok (.iaload, 1) := dk_46 (dk_at dksX8_holdSent_2 23 rfl rfl)
theorem dX8_holdSent_72 : decode cX8_holdSent 72 = .ok (.invokestatic 327, 3) := dk_184 1 71 (dk_at dksX8_holdSent_3 0 rfl rfl)
theorem dX8_holdSent_75 : decode cX8_holdSent 75 = .ok (.ifCond .eq 7, 3) := dk_153 0 7 (dk_at dksX8_holdSent_3 3 rfl rfl)
theorem dX8_holdSent_78 : decode cX8_holdSent 78 = .ok (.iconst 1, 1) := dk_4 (dk_at dksX8_holdSent_3 6 rfl rfl)
theorem dX8_holdSent_79 : decode cX8_holdSent 79 = .ok (.goto 4, 3) := dk_167 0 4 (dk_at dksX8_holdSent_3 7 rfl rfl)
theorem dX8_holdSent_82 : decode cX8_holdSent 82 = .ok (.iconst 0, 1) := dk_3 (dk_at dksX8_holdSent_3 10 rfl rfl)
theorem dX8_holdSent_83 : decode cX8_holdSent 83 = .ok (.istore_n 3, 1) := dk_62 (dk_at dksX8_holdSent_3 11 rfl rfl)
theorem dX8_holdSent_84 : decode cX8_holdSent 84 = .ok (.iinc 4 1, 3) := dk_132 4 1 (dk_at dksX8_holdSent_3 12 rfl rfl)
theorem dX8_holdSent_87 : decode cX8_holdSent 87 = .ok (.goto (-82), 3) := dk_167 255 174 (dk_at dksX8_holdSent_3 15 rfl rfl)
theorem dX8_holdSent_90 : decode cX8_holdSent 90 = .ok (.iload_n 3, 1) := dk_29 (dk_at dksX8_holdSent_3 18 rfl rfl)
theorem dX8_holdSent_91 : decode cX8_holdSent 91 = .ok (.ireturn, 1) := dk_172 (dk_at dksX8_holdSent_3 19 rfl rfl)
abbrev cX8_lays : ByteArray := prog_20_method_56_code
def yX8_lays : MethodName := ⟨RX8, "lays", "(II)V"⟩
def dkwX8_lays_8 : List UInt8 := [4, 96, 79, 177]
abbrev dktX8_lays_8 : List UInt8 := dkwX8_lays_8 ++ []
def dkwX8_lays_7 : List UInt8 := [180, 0, 16, 7, 29, 104, 21, 5, 96, 46, 79, 132, 5, 1, 167, 255, 219, 42, 180, 0, 141, 27, 92, 46]
abbrev dktX8_lays_7 : List UInt8 := dkwX8_lays_7 ++ dktX8_lays_8
def dkwX8_lays_6 : List UInt8 := [21, 5, 7, 162, 0, 37, 42, 180, 0, 147, 7, 16, 12, 27, 104, 21, 4, 96, 104, 21, 5, 96, 42]
abbrev dktX8_lays_6 : List UInt8 := dkwX8_lays_6 ++ dktX8_lays_7
def dkwX8_lays_5 : List UInt8 := [167, 255, 159, 42, 180, 0, 144, 16, 12, 27, 104, 21, 4, 96, 42, 180, 0, 13, 29, 46, 79, 3, 54, 5]
abbrev dktX8_lays_5 : List UInt8 := dkwX8_lays_5 ++ dktX8_lays_6
def dkwX8_lays_4 : List UInt8 := [42, 180, 0, 147, 7, 21, 5, 4, 100, 104, 21, 6, 96, 46, 79, 132, 6, 1, 167, 255, 221, 132, 4, 255]
abbrev dktX8_lays_4 : List UInt8 := dkwX8_lays_4 ++ dktX8_lays_5
def dkwX8_lays_3 : List UInt8 := [4, 100, 46, 79, 3, 54, 6, 21, 6, 7, 162, 0, 35, 42, 180, 0, 147, 7, 21, 5, 104, 21, 6, 96]
abbrev dktX8_lays_3 : List UInt8 := dkwX8_lays_3 ++ dktX8_lays_4
def dkwX8_lays_2 : List UInt8 := [164, 0, 75, 16, 12, 27, 104, 21, 4, 96, 54, 5, 42, 180, 0, 144, 21, 5, 42, 180, 0, 144, 21, 5]
abbrev dktX8_lays_2 : List UInt8 := dkwX8_lays_2 ++ dktX8_lays_3
def dkwX8_lays_1 : List UInt8 := [158, 0, 98, 42, 180, 0, 144, 16, 12, 27, 104, 21, 4, 96, 4, 100, 46, 42, 180, 0, 13, 29, 46]
abbrev dktX8_lays_1 : List UInt8 := dkwX8_lays_1 ++ dktX8_lays_2
def dkwX8_lays_0 : List UInt8 := [16, 12, 42, 180, 0, 65, 27, 46, 104, 28, 96, 62, 42, 180, 0, 141, 27, 46, 54, 4, 21, 4]
abbrev dktX8_lays_0 : List UInt8 := dkwX8_lays_0 ++ dktX8_lays_1
theorem dksX8_lays_0 : cX8_lays.data.toList.drop 0 = dktX8_lays_0 := by decide +kernel
theorem dksX8_lays_1 : cX8_lays.data.toList.drop 22 = dktX8_lays_1 := dk_seg dksX8_lays_0 22 rfl rfl
theorem dksX8_lays_2 : cX8_lays.data.toList.drop 45 = dktX8_lays_2 := dk_seg dksX8_lays_1 23 rfl rfl
theorem dksX8_lays_3 : cX8_lays.data.toList.drop 69 = dktX8_lays_3 := dk_seg dksX8_lays_2 24 rfl rfl
theorem dksX8_lays_4 : cX8_lays.data.toList.drop 93 = dktX8_lays_4 := dk_seg dksX8_lays_3 24 rfl rfl
theorem dksX8_lays_5 : cX8_lays.data.toList.drop 117 = dktX8_lays_5 := dk_seg dksX8_lays_4 24 rfl rfl
theorem dksX8_lays_6 : cX8_lays.data.toList.drop 141 = dktX8_lays_6 := dk_seg dksX8_lays_5 24 rfl rfl
theorem dksX8_lays_7 : cX8_lays.data.toList.drop 164 = dktX8_lays_7 := dk_seg dksX8_lays_6 23 rfl rfl
theorem dksX8_lays_8 : cX8_lays.data.toList.drop 188 = dktX8_lays_8 := dk_seg dksX8_lays_7 24 rfl rfl
theorem dX8_lays_0 : decode cX8_lays 0 = .ok (.bipush 12, 2) := dk_16 12 (dk_at dksX8_lays_0 0 rfl rfl)
theorem dX8_lays_2 : decode cX8_lays 2 = .ok (.aload_n 0, 1) := dk_42 (dk_at dksX8_lays_0 2 rfl rfl)
theorem dX8_lays_3 : decode cX8_lays 3 = .ok (.getfield 65, 3) := dk_180 0 65 (dk_at dksX8_lays_0 3 rfl rfl)
theorem dX8_lays_6 : decode cX8_lays 6 = .ok (.iload_n 1, 1) := dk_27 (dk_at dksX8_lays_0 6 rfl rfl)
theorem dX8_lays_7 : decode cX8_lays 7 = .ok (.iaload, 1) := dk_46 (dk_at dksX8_lays_0 7 rfl rfl)
theorem dX8_lays_8 : decode cX8_lays 8 = .ok (.imul, 1) := dk_104 (dk_at dksX8_lays_0 8 rfl rfl)
theorem dX8_lays_9 : decode cX8_lays 9 = .ok (.iload_n 2, 1) := dk_28 (dk_at dksX8_lays_0 9 rfl rfl)
theorem dX8_lays_10 : decode cX8_lays 10 = .ok (.iadd, 1) := dk_96 (dk_at dksX8_lays_0 10 rfl rfl)
theorem dX8_lays_11 : decode cX8_lays 11 = .ok (.istore_n 3, 1) := dk_62 (dk_at dksX8_lays_0 11 rfl rfl)
theorem dX8_lays_12 : decode cX8_lays 12 = .ok (.aload_n 0, 1) := dk_42 (dk_at dksX8_lays_0 12 rfl rfl)
theorem dX8_lays_13 : decode cX8_lays 13 = .ok (.getfield 141, 3) := dk_180 0 141 (dk_at dksX8_lays_0 13 rfl rfl)
theorem dX8_lays_16 : decode cX8_lays 16 = .ok (.iload_n 1, 1) := dk_27 (dk_at dksX8_lays_0 16 rfl rfl)
theorem dX8_lays_17 : decode cX8_lays 17 = .ok (.iaload, 1) := dk_46 (dk_at dksX8_lays_0 17 rfl rfl)
theorem dX8_lays_18 : decode cX8_lays 18 = .ok (.istore 4, 2) := dk_54 4 (dk_at dksX8_lays_0 18 rfl rfl)
theorem dX8_lays_20 : decode cX8_lays 20 = .ok (.iload 4, 2) := dk_21 4 (dk_at dksX8_lays_0 20 rfl rfl)
theorem dX8_lays_22 : decode cX8_lays 22 = .ok (.ifCond .le 98, 3) := dk_158 0 98 (dk_at dksX8_lays_1 0 rfl rfl)
theorem dX8_lays_25 : decode cX8_lays 25 = .ok (.aload_n 0, 1) := dk_42 (dk_at dksX8_lays_1 3 rfl rfl)
theorem dX8_lays_26 : decode cX8_lays 26 = .ok (.getfield 144, 3) := dk_180 0 144 (dk_at dksX8_lays_1 4 rfl rfl)
theorem dX8_lays_29 : decode cX8_lays 29 = .ok (.bipush 12, 2) := dk_16 12 (dk_at dksX8_lays_1 7 rfl rfl)
theorem dX8_lays_31 : decode cX8_lays 31 = .ok (.iload_n 1, 1) := dk_27 (dk_at dksX8_lays_1 9 rfl rfl)
theorem dX8_lays_32 : decode cX8_lays 32 = .ok (.imul, 1) := dk_104 (dk_at dksX8_lays_1 10 rfl rfl)
theorem dX8_lays_33 : decode cX8_lays 33 = .ok (.iload 4, 2) := dk_21 4 (dk_at dksX8_lays_1 11 rfl rfl)
theorem dX8_lays_35 : decode cX8_lays 35 = .ok (.iadd, 1) := dk_96 (dk_at dksX8_lays_1 13 rfl rfl)
theorem dX8_lays_36 : decode cX8_lays 36 = .ok (.iconst 1, 1) := dk_4 (dk_at dksX8_lays_1 14 rfl rfl)
theorem dX8_lays_37 : decode cX8_lays 37 = .ok (.isub, 1) := dk_100 (dk_at dksX8_lays_1 15 rfl rfl)
theorem dX8_lays_38 : decode cX8_lays 38 = .ok (.iaload, 1) := dk_46 (dk_at dksX8_lays_1 16 rfl rfl)
theorem dX8_lays_39 : decode cX8_lays 39 = .ok (.aload_n 0, 1) := dk_42 (dk_at dksX8_lays_1 17 rfl rfl)
theorem dX8_lays_40 : decode cX8_lays 40 = .ok (.getfield 13, 3) := dk_180 0 13 (dk_at dksX8_lays_1 18 rfl rfl)
theorem dX8_lays_43 : decode cX8_lays 43 = .ok (.iload_n 3, 1) := dk_29 (dk_at dksX8_lays_1 21 rfl rfl)
theorem dX8_lays_44 : decode cX8_lays 44 = .ok (.iaload, 1) := dk_46 (dk_at dksX8_lays_1 22 rfl rfl)
theorem dX8_lays_45 : decode cX8_lays 45 = .ok (.if_icmp .le 75, 3) := dk_164 0 75 (dk_at dksX8_lays_2 0 rfl rfl)
theorem dX8_lays_48 : decode cX8_lays 48 = .ok (.bipush 12, 2) := dk_16 12 (dk_at dksX8_lays_2 3 rfl rfl)
theorem dX8_lays_50 : decode cX8_lays 50 = .ok (.iload_n 1, 1) := dk_27 (dk_at dksX8_lays_2 5 rfl rfl)
theorem dX8_lays_51 : decode cX8_lays 51 = .ok (.imul, 1) := dk_104 (dk_at dksX8_lays_2 6 rfl rfl)
theorem dX8_lays_52 : decode cX8_lays 52 = .ok (.iload 4, 2) := dk_21 4 (dk_at dksX8_lays_2 7 rfl rfl)
theorem dX8_lays_54 : decode cX8_lays 54 = .ok (.iadd, 1) := dk_96 (dk_at dksX8_lays_2 9 rfl rfl)
theorem dX8_lays_55 : decode cX8_lays 55 = .ok (.istore 5, 2) := dk_54 5 (dk_at dksX8_lays_2 10 rfl rfl)
theorem dX8_lays_57 : decode cX8_lays 57 = .ok (.aload_n 0, 1) := dk_42 (dk_at dksX8_lays_2 12 rfl rfl)
theorem dX8_lays_58 : decode cX8_lays 58 = .ok (.getfield 144, 3) := dk_180 0 144 (dk_at dksX8_lays_2 13 rfl rfl)
theorem dX8_lays_61 : decode cX8_lays 61 = .ok (.iload 5, 2) := dk_21 5 (dk_at dksX8_lays_2 16 rfl rfl)
theorem dX8_lays_63 : decode cX8_lays 63 = .ok (.aload_n 0, 1) := dk_42 (dk_at dksX8_lays_2 18 rfl rfl)
theorem dX8_lays_64 : decode cX8_lays 64 = .ok (.getfield 144, 3) := dk_180 0 144 (dk_at dksX8_lays_2 19 rfl rfl)
theorem dX8_lays_67 : decode cX8_lays 67 = .ok (.iload 5, 2) := dk_21 5 (dk_at dksX8_lays_2 22 rfl rfl)
theorem dX8_lays_69 : decode cX8_lays 69 = .ok (.iconst 1, 1) := dk_4 (dk_at dksX8_lays_3 0 rfl rfl)
theorem dX8_lays_70 : decode cX8_lays 70 = .ok (.isub, 1) := dk_100 (dk_at dksX8_lays_3 1 rfl rfl)
theorem dX8_lays_71 : decode cX8_lays 71 = .ok (.iaload, 1) := dk_46 (dk_at dksX8_lays_3 2 rfl rfl)
theorem dX8_lays_72 : decode cX8_lays 72 = .ok (.iastore, 1) := dk_79 (dk_at dksX8_lays_3 3 rfl rfl)
theorem dX8_lays_73 : decode cX8_lays 73 = .ok (.iconst 0, 1) := dk_3 (dk_at dksX8_lays_3 4 rfl rfl)
theorem dX8_lays_74 : decode cX8_lays 74 = .ok (.istore 6, 2) := dk_54 6 (dk_at dksX8_lays_3 5 rfl rfl)
theorem dX8_lays_76 : decode cX8_lays 76 = .ok (.iload 6, 2) := dk_21 6 (dk_at dksX8_lays_3 7 rfl rfl)
theorem dX8_lays_78 : decode cX8_lays 78 = .ok (.iconst 4, 1) := dk_7 (dk_at dksX8_lays_3 9 rfl rfl)
theorem dX8_lays_79 : decode cX8_lays 79 = .ok (.if_icmp .ge 35, 3) := dk_162 0 35 (dk_at dksX8_lays_3 10 rfl rfl)
theorem dX8_lays_82 : decode cX8_lays 82 = .ok (.aload_n 0, 1) := dk_42 (dk_at dksX8_lays_3 13 rfl rfl)
theorem dX8_lays_83 : decode cX8_lays 83 = .ok (.getfield 147, 3) := dk_180 0 147 (dk_at dksX8_lays_3 14 rfl rfl)
theorem dX8_lays_86 : decode cX8_lays 86 = .ok (.iconst 4, 1) := dk_7 (dk_at dksX8_lays_3 17 rfl rfl)
theorem dX8_lays_87 : decode cX8_lays 87 = .ok (.iload 5, 2) := dk_21 5 (dk_at dksX8_lays_3 18 rfl rfl)
theorem dX8_lays_89 : decode cX8_lays 89 = .ok (.imul, 1) := dk_104 (dk_at dksX8_lays_3 20 rfl rfl)
theorem dX8_lays_90 : decode cX8_lays 90 = .ok (.iload 6, 2) := dk_21 6 (dk_at dksX8_lays_3 21 rfl rfl)
theorem dX8_lays_92 : decode cX8_lays 92 = .ok (.iadd, 1) := dk_96 (dk_at dksX8_lays_3 23 rfl rfl)
theorem dX8_lays_93 : decode cX8_lays 93 = .ok (.aload_n 0, 1) := dk_42 (dk_at dksX8_lays_4 0 rfl rfl)
theorem dX8_lays_94 : decode cX8_lays 94 = .ok (.getfield 147, 3) := dk_180 0 147 (dk_at dksX8_lays_4 1 rfl rfl)
theorem dX8_lays_97 : decode cX8_lays 97 = .ok (.iconst 4, 1) := dk_7 (dk_at dksX8_lays_4 4 rfl rfl)
theorem dX8_lays_98 : decode cX8_lays 98 = .ok (.iload 5, 2) := dk_21 5 (dk_at dksX8_lays_4 5 rfl rfl)
theorem dX8_lays_100 : decode cX8_lays 100 = .ok (.iconst 1, 1) := dk_4 (dk_at dksX8_lays_4 7 rfl rfl)
theorem dX8_lays_101 : decode cX8_lays 101 = .ok (.isub, 1) := dk_100 (dk_at dksX8_lays_4 8 rfl rfl)
theorem dX8_lays_102 : decode cX8_lays 102 = .ok (.imul, 1) := dk_104 (dk_at dksX8_lays_4 9 rfl rfl)
theorem dX8_lays_103 : decode cX8_lays 103 = .ok (.iload 6, 2) := dk_21 6 (dk_at dksX8_lays_4 10 rfl rfl)
theorem dX8_lays_105 : decode cX8_lays 105 = .ok (.iadd, 1) := dk_96 (dk_at dksX8_lays_4 12 rfl rfl)
theorem dX8_lays_106 : decode cX8_lays 106 = .ok (.iaload, 1) := dk_46 (dk_at dksX8_lays_4 13 rfl rfl)
theorem dX8_lays_107 : decode cX8_lays 107 = .ok (.iastore, 1) := dk_79 (dk_at dksX8_lays_4 14 rfl rfl)
theorem dX8_lays_108 : decode cX8_lays 108 = .ok (.iinc 6 1, 3) := dk_132 6 1 (dk_at dksX8_lays_4 15 rfl rfl)
theorem dX8_lays_111 : decode cX8_lays 111 = .ok (.goto (-35), 3) := dk_167 255 221 (dk_at dksX8_lays_4 18 rfl rfl)
theorem dX8_lays_114 : decode cX8_lays 114 = .ok (.iinc 4 (-1), 3) := dk_132 4 255 (dk_at dksX8_lays_4 21 rfl rfl)
theorem dX8_lays_117 : decode cX8_lays 117 = .ok (.goto (-97), 3) := dk_167 255 159 (dk_at dksX8_lays_5 0 rfl rfl)
theorem dX8_lays_120 : decode cX8_lays 120 = .ok (.aload_n 0, 1) := dk_42 (dk_at dksX8_lays_5 3 rfl rfl)
theorem dX8_lays_121 : decode cX8_lays 121 = .ok (.getfield 144, 3) := dk_180 0 144 (dk_at dksX8_lays_5 4 rfl rfl)
theorem dX8_lays_124 : decode cX8_lays 124 = .ok (.bipush 12, 2) := dk_16 12 (dk_at dksX8_lays_5 7 rfl rfl)
theorem dX8_lays_126 : decode cX8_lays 126 = .ok (.iload_n 1, 1) := dk_27 (dk_at dksX8_lays_5 9 rfl rfl)
theorem dX8_lays_127 : decode cX8_lays 127 = .ok (.imul, 1) := dk_104 (dk_at dksX8_lays_5 10 rfl rfl)
theorem dX8_lays_128 : decode cX8_lays 128 = .ok (.iload 4, 2) := dk_21 4 (dk_at dksX8_lays_5 11 rfl rfl)
theorem dX8_lays_130 : decode cX8_lays 130 = .ok (.iadd, 1) := dk_96 (dk_at dksX8_lays_5 13 rfl rfl)
theorem dX8_lays_131 : decode cX8_lays 131 = .ok (.aload_n 0, 1) := dk_42 (dk_at dksX8_lays_5 14 rfl rfl)
theorem dX8_lays_132 : decode cX8_lays 132 = .ok (.getfield 13, 3) := dk_180 0 13 (dk_at dksX8_lays_5 15 rfl rfl)
theorem dX8_lays_135 : decode cX8_lays 135 = .ok (.iload_n 3, 1) := dk_29 (dk_at dksX8_lays_5 18 rfl rfl)
theorem dX8_lays_136 : decode cX8_lays 136 = .ok (.iaload, 1) := dk_46 (dk_at dksX8_lays_5 19 rfl rfl)
theorem dX8_lays_137 : decode cX8_lays 137 = .ok (.iastore, 1) := dk_79 (dk_at dksX8_lays_5 20 rfl rfl)
theorem dX8_lays_138 : decode cX8_lays 138 = .ok (.iconst 0, 1) := dk_3 (dk_at dksX8_lays_5 21 rfl rfl)
theorem dX8_lays_139 : decode cX8_lays 139 = .ok (.istore 5, 2) := dk_54 5 (dk_at dksX8_lays_5 22 rfl rfl)
theorem dX8_lays_141 : decode cX8_lays 141 = .ok (.iload 5, 2) := dk_21 5 (dk_at dksX8_lays_6 0 rfl rfl)
theorem dX8_lays_143 : decode cX8_lays 143 = .ok (.iconst 4, 1) := dk_7 (dk_at dksX8_lays_6 2 rfl rfl)
theorem dX8_lays_144 : decode cX8_lays 144 = .ok (.if_icmp .ge 37, 3) := dk_162 0 37 (dk_at dksX8_lays_6 3 rfl rfl)
theorem dX8_lays_147 : decode cX8_lays 147 = .ok (.aload_n 0, 1) := dk_42 (dk_at dksX8_lays_6 6 rfl rfl)
theorem dX8_lays_148 : decode cX8_lays 148 = .ok (.getfield 147, 3) := dk_180 0 147 (dk_at dksX8_lays_6 7 rfl rfl)
theorem dX8_lays_151 : decode cX8_lays 151 = .ok (.iconst 4, 1) := dk_7 (dk_at dksX8_lays_6 10 rfl rfl)
theorem dX8_lays_152 : decode cX8_lays 152 = .ok (.bipush 12, 2) := dk_16 12 (dk_at dksX8_lays_6 11 rfl rfl)
theorem dX8_lays_154 : decode cX8_lays 154 = .ok (.iload_n 1, 1) := dk_27 (dk_at dksX8_lays_6 13 rfl rfl)
theorem dX8_lays_155 : decode cX8_lays 155 = .ok (.imul, 1) := dk_104 (dk_at dksX8_lays_6 14 rfl rfl)
theorem dX8_lays_156 : decode cX8_lays 156 = .ok (.iload 4, 2) := dk_21 4 (dk_at dksX8_lays_6 15 rfl rfl)
theorem dX8_lays_158 : decode cX8_lays 158 = .ok (.iadd, 1) := dk_96 (dk_at dksX8_lays_6 17 rfl rfl)
theorem dX8_lays_159 : decode cX8_lays 159 = .ok (.imul, 1) := dk_104 (dk_at dksX8_lays_6 18 rfl rfl)
theorem dX8_lays_160 : decode cX8_lays 160 = .ok (.iload 5, 2) := dk_21 5 (dk_at dksX8_lays_6 19 rfl rfl)
theorem dX8_lays_162 : decode cX8_lays 162 = .ok (.iadd, 1) := dk_96 (dk_at dksX8_lays_6 21 rfl rfl)
theorem dX8_lays_163 : decode cX8_lays 163 = .ok (.aload_n 0, 1) := dk_42 (dk_at dksX8_lays_6 22 rfl rfl)
theorem dX8_lays_164 : decode cX8_lays 164 = .ok (.getfield 16, 3) := dk_180 0 16 (dk_at dksX8_lays_7 0 rfl rfl)
theorem dX8_lays_167 : decode cX8_lays 167 = .ok (.iconst 4, 1) := dk_7 (dk_at dksX8_lays_7 3 rfl rfl)
theorem dX8_lays_168 : decode cX8_lays 168 = .ok (.iload_n 3, 1) := dk_29 (dk_at dksX8_lays_7 4 rfl rfl)
theorem dX8_lays_169 : decode cX8_lays 169 = .ok (.imul, 1) := dk_104 (dk_at dksX8_lays_7 5 rfl rfl)
theorem dX8_lays_170 : decode cX8_lays 170 = .ok (.iload 5, 2) := dk_21 5 (dk_at dksX8_lays_7 6 rfl rfl)
theorem dX8_lays_172 : decode cX8_lays 172 = .ok (.iadd, 1) := dk_96 (dk_at dksX8_lays_7 8 rfl rfl)
theorem dX8_lays_173 : decode cX8_lays 173 = .ok (.iaload, 1) := dk_46 (dk_at dksX8_lays_7 9 rfl rfl)
theorem dX8_lays_174 : decode cX8_lays 174 = .ok (.iastore, 1) := dk_79 (dk_at dksX8_lays_7 10 rfl rfl)
theorem dX8_lays_175 : decode cX8_lays 175 = .ok (.iinc 5 1, 3) := dk_132 5 1 (dk_at dksX8_lays_7 11 rfl rfl)
theorem dX8_lays_178 : decode cX8_lays 178 = .ok (.goto (-37), 3) := dk_167 255 219 (dk_at dksX8_lays_7 14 rfl rfl)
theorem dX8_lays_181 : decode cX8_lays 181 = .ok (.aload_n 0, 1) := dk_42 (dk_at dksX8_lays_7 17 rfl rfl)
theorem dX8_lays_182 : decode cX8_lays 182 = .ok (.getfield 141, 3) := dk_180 0 141 (dk_at dksX8_lays_7 18 rfl rfl)
theorem dX8_lays_185 : decode cX8_lays 185 = .ok (.iload_n 1, 1) := dk_27 (dk_at dksX8_lays_7 21 rfl rfl)
theorem dX8_lays_186 : decode cX8_lays 186 = .ok (.dup2, 1) := dk_92 (dk_at dksX8_lays_7 22 rfl rfl)
theorem dX8_lays_187 : decode cX8_lays 187 = .ok (.iaload, 1) := dk_46 (dk_at dksX8_lays_7 23 rfl rfl)
theorem dX8_lays_188 : decode cX8_lays 188 = .ok (.iconst 1, 1) := dk_4 (dk_at dksX8_lays_8 0 rfl rfl)
theorem dX8_lays_189 : decode cX8_lays 189 = .ok (.iadd, 1) := dk_96 (dk_at dksX8_lays_8 1 rfl rfl)
theorem dX8_lays_190 : decode cX8_lays 190 = .ok (.iastore, 1) := dk_79 (dk_at dksX8_lays_8 2 rfl rfl)
theorem dX8_lays_191 : decode cX8_lays 191 = .ok (.return_, 1) := dk_177 (dk_at dksX8_lays_8 3 rfl rfl)
abbrev cX8_scans : ByteArray := prog_20_method_58_code
def yX8_scans : MethodName := ⟨RX8, "scans", "(I)Z"⟩
def dkwX8_scans_3 : List UInt8 := [167, 0, 14, 42, 180, 0, 62, 42, 180, 0, 65, 27, 46, 46, 79, 42, 180, 1, 96, 172]
abbrev dktX8_scans_3 : List UInt8 := dkwX8_scans_3 ++ []
def dkwX8_scans_2 : List UInt8 := [180, 0, 62, 42, 180, 0, 65, 27, 46, 42, 27, 182, 1, 121, 154, 0, 12, 42, 180, 0, 141, 27, 46]
abbrev dktX8_scans_2 : List UInt8 := dkwX8_scans_2 ++ dktX8_scans_3
def dkwX8_scans_1 : List UInt8 := [172, 42, 27, 2, 3, 3, 182, 1, 114, 42, 180, 1, 96, 154, 0, 47, 42, 27, 182, 1, 118, 42]
abbrev dktX8_scans_1 : List UInt8 := dkwX8_scans_1 ++ dktX8_scans_2
def dkwX8_scans_0 : List UInt8 := [42, 180, 0, 141, 27, 3, 79, 42, 42, 180, 0, 65, 27, 46, 184, 0, 220, 182, 1, 111, 154, 0, 5, 4]
abbrev dktX8_scans_0 : List UInt8 := dkwX8_scans_0 ++ dktX8_scans_1
theorem dksX8_scans_0 : cX8_scans.data.toList.drop 0 = dktX8_scans_0 := by decide +kernel
theorem dksX8_scans_1 : cX8_scans.data.toList.drop 24 = dktX8_scans_1 := dk_seg dksX8_scans_0 24 rfl rfl
theorem dksX8_scans_2 : cX8_scans.data.toList.drop 46 = dktX8_scans_2 := dk_seg dksX8_scans_1 22 rfl rfl
theorem dksX8_scans_3 : cX8_scans.data.toList.drop 69 = dktX8_scans_3 := dk_seg dksX8_scans_2 23 rfl rfl
theorem dX8_scans_0 : decode cX8_scans 0 = .ok (.aload_n 0, 1) := dk_42 (dk_at dksX8_scans_0 0 rfl rfl)
theorem dX8_scans_1 : decode cX8_scans 1 = .ok (.getfield 141, 3) := dk_180 0 141 (dk_at dksX8_scans_0 1 rfl rfl)
theorem dX8_scans_4 : decode cX8_scans 4 = .ok (.iload_n 1, 1) := dk_27 (dk_at dksX8_scans_0 4 rfl rfl)
theorem dX8_scans_5 : decode cX8_scans 5 = .ok (.iconst 0, 1) := dk_3 (dk_at dksX8_scans_0 5 rfl rfl)
theorem dX8_scans_6 : decode cX8_scans 6 = .ok (.iastore, 1) := dk_79 (dk_at dksX8_scans_0 6 rfl rfl)
theorem dX8_scans_7 : decode cX8_scans 7 = .ok (.aload_n 0, 1) := dk_42 (dk_at dksX8_scans_0 7 rfl rfl)
theorem dX8_scans_8 : decode cX8_scans 8 = .ok (.aload_n 0, 1) := dk_42 (dk_at dksX8_scans_0 8 rfl rfl)
theorem dX8_scans_9 : decode cX8_scans 9 = .ok (.getfield 65, 3) := dk_180 0 65 (dk_at dksX8_scans_0 9 rfl rfl)
theorem dX8_scans_12 : decode cX8_scans 12 = .ok (.iload_n 1, 1) := dk_27 (dk_at dksX8_scans_0 12 rfl rfl)
theorem dX8_scans_13 : decode cX8_scans 13 = .ok (.iaload, 1) := dk_46 (dk_at dksX8_scans_0 13 rfl rfl)
theorem dX8_scans_14 : decode cX8_scans 14 = .ok (.invokestatic 220, 3) := dk_184 0 220 (dk_at dksX8_scans_0 14 rfl rfl)
theorem dX8_scans_17 : decode cX8_scans 17 = .ok (.invokevirtual 367, 3) := dk_182 1 111 (dk_at dksX8_scans_0 17 rfl rfl)
theorem dX8_scans_20 : decode cX8_scans 20 = .ok (.ifCond .ne 5, 3) := dk_154 0 5 (dk_at dksX8_scans_0 20 rfl rfl)
theorem dX8_scans_23 : decode cX8_scans 23 = .ok (.iconst 1, 1) := dk_4 (dk_at dksX8_scans_0 23 rfl rfl)
theorem dX8_scans_24 : decode cX8_scans 24 = .ok (.ireturn, 1) := dk_172 (dk_at dksX8_scans_1 0 rfl rfl)
theorem dX8_scans_25 : decode cX8_scans 25 = .ok (.aload_n 0, 1) := dk_42 (dk_at dksX8_scans_1 1 rfl rfl)
theorem dX8_scans_26 : decode cX8_scans 26 = .ok (.iload_n 1, 1) := dk_27 (dk_at dksX8_scans_1 2 rfl rfl)
theorem dX8_scans_27 : decode cX8_scans 27 = .ok (.iconst (-1), 1) := dk_2 (dk_at dksX8_scans_1 3 rfl rfl)
theorem dX8_scans_28 : decode cX8_scans 28 = .ok (.iconst 0, 1) := dk_3 (dk_at dksX8_scans_1 4 rfl rfl)
theorem dX8_scans_29 : decode cX8_scans 29 = .ok (.iconst 0, 1) := dk_3 (dk_at dksX8_scans_1 5 rfl rfl)
theorem dX8_scans_30 : decode cX8_scans 30 = .ok (.invokevirtual 370, 3) := dk_182 1 114 (dk_at dksX8_scans_1 6 rfl rfl)
theorem dX8_scans_33 : decode cX8_scans 33 = .ok (.aload_n 0, 1) := dk_42 (dk_at dksX8_scans_1 9 rfl rfl)
theorem dX8_scans_34 : decode cX8_scans 34 = .ok (.getfield 352, 3) := dk_180 1 96 (dk_at dksX8_scans_1 10 rfl rfl)
theorem dX8_scans_37 : decode cX8_scans 37 = .ok (.ifCond .ne 47, 3) := dk_154 0 47 (dk_at dksX8_scans_1 13 rfl rfl)
theorem dX8_scans_40 : decode cX8_scans 40 = .ok (.aload_n 0, 1) := dk_42 (dk_at dksX8_scans_1 16 rfl rfl)
theorem dX8_scans_41 : decode cX8_scans 41 = .ok (.iload_n 1, 1) := dk_27 (dk_at dksX8_scans_1 17 rfl rfl)
theorem dX8_scans_42 : decode cX8_scans 42 = .ok (.invokevirtual 374, 3) := dk_182 1 118 (dk_at dksX8_scans_1 18 rfl rfl)
theorem dX8_scans_45 : decode cX8_scans 45 = .ok (.aload_n 0, 1) := dk_42 (dk_at dksX8_scans_1 21 rfl rfl)
theorem dX8_scans_46 : decode cX8_scans 46 = .ok (.getfield 62, 3) := dk_180 0 62 (dk_at dksX8_scans_2 0 rfl rfl)
theorem dX8_scans_49 : decode cX8_scans 49 = .ok (.aload_n 0, 1) := dk_42 (dk_at dksX8_scans_2 3 rfl rfl)
theorem dX8_scans_50 : decode cX8_scans 50 = .ok (.getfield 65, 3) := dk_180 0 65 (dk_at dksX8_scans_2 4 rfl rfl)
theorem dX8_scans_53 : decode cX8_scans 53 = .ok (.iload_n 1, 1) := dk_27 (dk_at dksX8_scans_2 7 rfl rfl)
theorem dX8_scans_54 : decode cX8_scans 54 = .ok (.iaload, 1) := dk_46 (dk_at dksX8_scans_2 8 rfl rfl)
theorem dX8_scans_55 : decode cX8_scans 55 = .ok (.aload_n 0, 1) := dk_42 (dk_at dksX8_scans_2 9 rfl rfl)
theorem dX8_scans_56 : decode cX8_scans 56 = .ok (.iload_n 1, 1) := dk_27 (dk_at dksX8_scans_2 10 rfl rfl)
theorem dX8_scans_57 : decode cX8_scans 57 = .ok (.invokevirtual 377, 3) := dk_182 1 121 (dk_at dksX8_scans_2 11 rfl rfl)
theorem dX8_scans_60 : decode cX8_scans 60 = .ok (.ifCond .ne 12, 3) := dk_154 0 12 (dk_at dksX8_scans_2 14 rfl rfl)
theorem dX8_scans_63 : decode cX8_scans 63 = .ok (.aload_n 0, 1) := dk_42 (dk_at dksX8_scans_2 17 rfl rfl)
theorem dX8_scans_64 : decode cX8_scans 64 = .ok (.getfield 141, 3) := dk_180 0 141 (dk_at dksX8_scans_2 18 rfl rfl)
theorem dX8_scans_67 : decode cX8_scans 67 = .ok (.iload_n 1, 1) := dk_27 (dk_at dksX8_scans_2 21 rfl rfl)
theorem dX8_scans_68 : decode cX8_scans 68 = .ok (.iaload, 1) := dk_46 (dk_at dksX8_scans_2 22 rfl rfl)
theorem dX8_scans_69 : decode cX8_scans 69 = .ok (.goto 14, 3) := dk_167 0 14 (dk_at dksX8_scans_3 0 rfl rfl)
theorem dX8_scans_72 : decode cX8_scans 72 = .ok (.aload_n 0, 1) := dk_42 (dk_at dksX8_scans_3 3 rfl rfl)
theorem dX8_scans_73 : decode cX8_scans 73 = .ok (.getfield 62, 3) := dk_180 0 62 (dk_at dksX8_scans_3 4 rfl rfl)
theorem dX8_scans_76 : decode cX8_scans 76 = .ok (.aload_n 0, 1) := dk_42 (dk_at dksX8_scans_3 7 rfl rfl)
theorem dX8_scans_77 : decode cX8_scans 77 = .ok (.getfield 65, 3) := dk_180 0 65 (dk_at dksX8_scans_3 8 rfl rfl)
theorem dX8_scans_80 : decode cX8_scans 80 = .ok (.iload_n 1, 1) := dk_27 (dk_at dksX8_scans_3 11 rfl rfl)
theorem dX8_scans_81 : decode cX8_scans 81 = .ok (.iaload, 1) := dk_46 (dk_at dksX8_scans_3 12 rfl rfl)
theorem dX8_scans_82 : decode cX8_scans 82 = .ok (.iaload, 1) := dk_46 (dk_at dksX8_scans_3 13 rfl rfl)
theorem dX8_scans_83 : decode cX8_scans 83 = .ok (.iastore, 1) := dk_79 (dk_at dksX8_scans_3 14 rfl rfl)
theorem dX8_scans_84 : decode cX8_scans 84 = .ok (.aload_n 0, 1) := dk_42 (dk_at dksX8_scans_3 15 rfl rfl)
theorem dX8_scans_85 : decode cX8_scans 85 = .ok (.getfield 352, 3) := dk_180 1 96 (dk_at dksX8_scans_3 16 rfl rfl)
theorem dX8_scans_88 : decode cX8_scans 88 = .ok (.ireturn, 1) := dk_172 (dk_at dksX8_scans_3 19 rfl rfl)
abbrev cX8_remembers : ByteArray := prog_20_method_57_code
def yX8_remembers : MethodName := ⟨RX8, "remembers", "(I)V"⟩
def dkwX8_remembers_12 : List UInt8 := [79, 42, 180, 0, 126, 28, 92, 46, 4, 96, 79, 132, 3, 1, 167, 255, 175, 177]
abbrev dktX8_remembers_12 : List UInt8 := dkwX8_remembers_12 ++ []
def dkwX8_remembers_11 : List UInt8 := [180, 0, 132, 21, 4, 42, 180, 0, 86, 29, 46, 79, 42, 180, 0, 135, 21, 4, 42, 180, 0, 89, 29, 46]
abbrev dktX8_remembers_11 : List UInt8 := dkwX8_remembers_11 ++ dktX8_remembers_12
def dkwX8_remembers_10 : List UInt8 := [180, 0, 126, 28, 46, 96, 54, 4, 42, 180, 0, 129, 21, 4, 42, 180, 0, 83, 29, 46, 79, 42]
abbrev dktX8_remembers_10 : List UInt8 := dkwX8_remembers_10 ++ dktX8_remembers_11
def dkwX8_remembers_9 : List UInt8 := [3, 62, 29, 42, 180, 1, 55, 162, 0, 79, 42, 29, 27, 182, 1, 68, 153, 0, 64, 7, 28, 104, 42]
abbrev dktX8_remembers_9 : List UInt8 := dkwX8_remembers_9 ++ dktX8_remembers_10
def dkwX8_remembers_8 : List UInt8 := [180, 0, 147, 16, 48, 27, 104, 29, 96, 46, 79, 132, 3, 1, 167, 255, 219, 42, 180, 0, 126, 28, 3, 79]
abbrev dktX8_remembers_8 : List UInt8 := dkwX8_remembers_8 ++ dktX8_remembers_9
def dkwX8_remembers_7 : List UInt8 := [29, 42, 180, 0, 141, 27, 46, 7, 104, 162, 0, 31, 42, 180, 0, 123, 16, 48, 28, 104, 29, 96, 42]
abbrev dktX8_remembers_7 : List UInt8 := dkwX8_remembers_7 ++ dktX8_remembers_8
def dkwX8_remembers_6 : List UInt8 := [28, 104, 29, 96, 42, 180, 0, 144, 16, 12, 27, 104, 29, 96, 46, 79, 132, 3, 1, 167, 255, 221, 3, 62]
abbrev dktX8_remembers_6 : List UInt8 := dkwX8_remembers_6 ++ dktX8_remembers_7
def dkwX8_remembers_5 : List UInt8 := [180, 0, 141, 27, 46, 79, 3, 62, 29, 42, 180, 0, 141, 27, 46, 162, 0, 31, 42, 180, 0, 120, 16, 12]
abbrev dktX8_remembers_5 : List UInt8 := dkwX8_remembers_5 ++ dktX8_remembers_6
def dkwX8_remembers_4 : List UInt8 := [46, 79, 42, 180, 0, 111, 28, 2, 79, 42, 180, 0, 114, 28, 2, 79, 42, 180, 0, 117, 28, 42]
abbrev dktX8_remembers_4 : List UInt8 := dkwX8_remembers_4 ++ dktX8_remembers_5
def dkwX8_remembers_3 : List UInt8 := [180, 0, 105, 28, 42, 180, 0, 235, 79, 42, 180, 0, 108, 28, 42, 180, 0, 22, 42, 180, 0, 65, 27, 46]
abbrev dktX8_remembers_3 : List UInt8 := dkwX8_remembers_3 ++ dktX8_remembers_4
def dkwX8_remembers_2 : List UInt8 := [42, 89, 180, 0, 232, 4, 96, 181, 0, 232, 42, 180, 0, 102, 28, 42, 180, 0, 65, 27, 46, 79, 42]
abbrev dktX8_remembers_2 : List UInt8 := dkwX8_remembers_2 ++ dktX8_remembers_3
def dkwX8_remembers_1 : List UInt8 := [182, 0, 238, 132, 2, 1, 167, 255, 239, 42, 89, 180, 0, 232, 4, 100, 181, 0, 232, 42, 180, 0, 232, 61]
abbrev dktX8_remembers_1 : List UInt8 := dkwX8_remembers_1 ++ dktX8_remembers_2
def dkwX8_remembers_0 : List UInt8 := [42, 180, 0, 232, 16, 6, 160, 0, 35, 4, 61, 28, 16, 6, 162, 0, 17, 42, 28, 28, 4, 100]
abbrev dktX8_remembers_0 : List UInt8 := dkwX8_remembers_0 ++ dktX8_remembers_1
theorem dksX8_remembers_0 : cX8_remembers.data.toList.drop 0 = dktX8_remembers_0 := by decide +kernel
theorem dksX8_remembers_1 : cX8_remembers.data.toList.drop 22 = dktX8_remembers_1 := dk_seg dksX8_remembers_0 22 rfl rfl
theorem dksX8_remembers_2 : cX8_remembers.data.toList.drop 46 = dktX8_remembers_2 := dk_seg dksX8_remembers_1 24 rfl rfl
theorem dksX8_remembers_3 : cX8_remembers.data.toList.drop 69 = dktX8_remembers_3 := dk_seg dksX8_remembers_2 23 rfl rfl
theorem dksX8_remembers_4 : cX8_remembers.data.toList.drop 93 = dktX8_remembers_4 := dk_seg dksX8_remembers_3 24 rfl rfl
theorem dksX8_remembers_5 : cX8_remembers.data.toList.drop 115 = dktX8_remembers_5 := dk_seg dksX8_remembers_4 22 rfl rfl
theorem dksX8_remembers_6 : cX8_remembers.data.toList.drop 139 = dktX8_remembers_6 := dk_seg dksX8_remembers_5 24 rfl rfl
theorem dksX8_remembers_7 : cX8_remembers.data.toList.drop 163 = dktX8_remembers_7 := dk_seg dksX8_remembers_6 24 rfl rfl
theorem dksX8_remembers_8 : cX8_remembers.data.toList.drop 186 = dktX8_remembers_8 := dk_seg dksX8_remembers_7 23 rfl rfl
theorem dksX8_remembers_9 : cX8_remembers.data.toList.drop 210 = dktX8_remembers_9 := dk_seg dksX8_remembers_8 24 rfl rfl
theorem dksX8_remembers_10 : cX8_remembers.data.toList.drop 233 = dktX8_remembers_10 := dk_seg dksX8_remembers_9 23 rfl rfl
theorem dksX8_remembers_11 : cX8_remembers.data.toList.drop 255 = dktX8_remembers_11 := dk_seg dksX8_remembers_10 22 rfl rfl
theorem dksX8_remembers_12 : cX8_remembers.data.toList.drop 279 = dktX8_remembers_12 := dk_seg dksX8_remembers_11 24 rfl rfl
theorem dX8_remembers_0 : decode cX8_remembers 0 = .ok (.aload_n 0, 1) := dk_42 (dk_at dksX8_remembers_0 0 rfl rfl)
theorem dX8_remembers_1 : decode cX8_remembers 1 = .ok (.getfield 232, 3) := dk_180 0 232 (dk_at dksX8_remembers_0 1 rfl rfl)
theorem dX8_remembers_4 : decode cX8_remembers 4 = .ok (.bipush 6, 2) := dk_16 6 (dk_at dksX8_remembers_0 4 rfl rfl)
theorem dX8_remembers_6 : decode cX8_remembers 6 = .ok (.if_icmp .ne 35, 3) := dk_160 0 35 (dk_at dksX8_remembers_0 6 rfl rfl)
theorem dX8_remembers_9 : decode cX8_remembers 9 = .ok (.iconst 1, 1) := dk_4 (dk_at dksX8_remembers_0 9 rfl rfl)
theorem dX8_remembers_10 : decode cX8_remembers 10 = .ok (.istore_n 2, 1) := dk_61 (dk_at dksX8_remembers_0 10 rfl rfl)
theorem dX8_remembers_11 : decode cX8_remembers 11 = .ok (.iload_n 2, 1) := dk_28 (dk_at dksX8_remembers_0 11 rfl rfl)
theorem dX8_remembers_12 : decode cX8_remembers 12 = .ok (.bipush 6, 2) := dk_16 6 (dk_at dksX8_remembers_0 12 rfl rfl)
theorem dX8_remembers_14 : decode cX8_remembers 14 = .ok (.if_icmp .ge 17, 3) := dk_162 0 17 (dk_at dksX8_remembers_0 14 rfl rfl)
theorem dX8_remembers_17 : decode cX8_remembers 17 = .ok (.aload_n 0, 1) := dk_42 (dk_at dksX8_remembers_0 17 rfl rfl)
theorem dX8_remembers_18 : decode cX8_remembers 18 = .ok (.iload_n 2, 1) := dk_28 (dk_at dksX8_remembers_0 18 rfl rfl)
theorem dX8_remembers_19 : decode cX8_remembers 19 = .ok (.iload_n 2, 1) := dk_28 (dk_at dksX8_remembers_0 19 rfl rfl)
theorem dX8_remembers_20 : decode cX8_remembers 20 = .ok (.iconst 1, 1) := dk_4 (dk_at dksX8_remembers_0 20 rfl rfl)
theorem dX8_remembers_21 : decode cX8_remembers 21 = .ok (.isub, 1) := dk_100 (dk_at dksX8_remembers_0 21 rfl rfl)
theorem dX8_remembers_22 : decode cX8_remembers 22 = .ok (.invokevirtual 238, 3) := dk_182 0 238 (dk_at dksX8_remembers_1 0 rfl rfl)
theorem dX8_remembers_25 : decode cX8_remembers 25 = .ok (.iinc 2 1, 3) := dk_132 2 1 (dk_at dksX8_remembers_1 3 rfl rfl)
theorem dX8_remembers_28 : decode cX8_remembers 28 = .ok (.goto (-17), 3) := dk_167 255 239 (dk_at dksX8_remembers_1 6 rfl rfl)
theorem dX8_remembers_31 : decode cX8_remembers 31 = .ok (.aload_n 0, 1) := dk_42 (dk_at dksX8_remembers_1 9 rfl rfl)
theorem dX8_remembers_32 : decode cX8_remembers 32 = .ok (.dup, 1) := dk_89 (dk_at dksX8_remembers_1 10 rfl rfl)
theorem dX8_remembers_33 : decode cX8_remembers 33 = .ok (.getfield 232, 3) := dk_180 0 232 (dk_at dksX8_remembers_1 11 rfl rfl)
theorem dX8_remembers_36 : decode cX8_remembers 36 = .ok (.iconst 1, 1) := dk_4 (dk_at dksX8_remembers_1 14 rfl rfl)
theorem dX8_remembers_37 : decode cX8_remembers 37 = .ok (.isub, 1) := dk_100 (dk_at dksX8_remembers_1 15 rfl rfl)
theorem dX8_remembers_38 : decode cX8_remembers 38 = .ok (.putfield 232, 3) := dk_181 0 232 (dk_at dksX8_remembers_1 16 rfl rfl)
theorem dX8_remembers_41 : decode cX8_remembers 41 = .ok (.aload_n 0, 1) := dk_42 (dk_at dksX8_remembers_1 19 rfl rfl)
theorem dX8_remembers_42 : decode cX8_remembers 42 = .ok (.getfield 232, 3) := dk_180 0 232 (dk_at dksX8_remembers_1 20 rfl rfl)
theorem dX8_remembers_45 : decode cX8_remembers 45 = .ok (.istore_n 2, 1) := dk_61 (dk_at dksX8_remembers_1 23 rfl rfl)
theorem dX8_remembers_46 : decode cX8_remembers 46 = .ok (.aload_n 0, 1) := dk_42 (dk_at dksX8_remembers_2 0 rfl rfl)
theorem dX8_remembers_47 : decode cX8_remembers 47 = .ok (.dup, 1) := dk_89 (dk_at dksX8_remembers_2 1 rfl rfl)
theorem dX8_remembers_48 : decode cX8_remembers 48 = .ok (.getfield 232, 3) := dk_180 0 232 (dk_at dksX8_remembers_2 2 rfl rfl)
theorem dX8_remembers_51 : decode cX8_remembers 51 = .ok (.iconst 1, 1) := dk_4 (dk_at dksX8_remembers_2 5 rfl rfl)
theorem dX8_remembers_52 : decode cX8_remembers 52 = .ok (.iadd, 1) := dk_96 (dk_at dksX8_remembers_2 6 rfl rfl)
theorem dX8_remembers_53 : decode cX8_remembers 53 = .ok (.putfield 232, 3) := dk_181 0 232 (dk_at dksX8_remembers_2 7 rfl rfl)
theorem dX8_remembers_56 : decode cX8_remembers 56 = .ok (.aload_n 0, 1) := dk_42 (dk_at dksX8_remembers_2 10 rfl rfl)
theorem dX8_remembers_57 : decode cX8_remembers 57 = .ok (.getfield 102, 3) := dk_180 0 102 (dk_at dksX8_remembers_2 11 rfl rfl)
theorem dX8_remembers_60 : decode cX8_remembers 60 = .ok (.iload_n 2, 1) := dk_28 (dk_at dksX8_remembers_2 14 rfl rfl)
theorem dX8_remembers_61 : decode cX8_remembers 61 = .ok (.aload_n 0, 1) := dk_42 (dk_at dksX8_remembers_2 15 rfl rfl)
theorem dX8_remembers_62 : decode cX8_remembers 62 = .ok (.getfield 65, 3) := dk_180 0 65 (dk_at dksX8_remembers_2 16 rfl rfl)
theorem dX8_remembers_65 : decode cX8_remembers 65 = .ok (.iload_n 1, 1) := dk_27 (dk_at dksX8_remembers_2 19 rfl rfl)
theorem dX8_remembers_66 : decode cX8_remembers 66 = .ok (.iaload, 1) := dk_46 (dk_at dksX8_remembers_2 20 rfl rfl)
theorem dX8_remembers_67 : decode cX8_remembers 67 = .ok (.iastore, 1) := dk_79 (dk_at dksX8_remembers_2 21 rfl rfl)
theorem dX8_remembers_68 : decode cX8_remembers 68 = .ok (.aload_n 0, 1) := dk_42 (dk_at dksX8_remembers_2 22 rfl rfl)
theorem dX8_remembers_69 : decode cX8_remembers 69 = .ok (.getfield 105, 3) := dk_180 0 105 (dk_at dksX8_remembers_3 0 rfl rfl)
theorem dX8_remembers_72 : decode cX8_remembers 72 = .ok (.iload_n 2, 1) := dk_28 (dk_at dksX8_remembers_3 3 rfl rfl)
theorem dX8_remembers_73 : decode cX8_remembers 73 = .ok (.aload_n 0, 1) := dk_42 (dk_at dksX8_remembers_3 4 rfl rfl)
theorem dX8_remembers_74 : decode cX8_remembers 74 = .ok (.getfield 235, 3) := dk_180 0 235 (dk_at dksX8_remembers_3 5 rfl rfl)
theorem dX8_remembers_77 : decode cX8_remembers 77 = .ok (.iastore, 1) := dk_79 (dk_at dksX8_remembers_3 8 rfl rfl)
theorem dX8_remembers_78 : decode cX8_remembers 78 = .ok (.aload_n 0, 1) := dk_42 (dk_at dksX8_remembers_3 9 rfl rfl)
theorem dX8_remembers_79 : decode cX8_remembers 79 = .ok (.getfield 108, 3) := dk_180 0 108 (dk_at dksX8_remembers_3 10 rfl rfl)
theorem dX8_remembers_82 : decode cX8_remembers 82 = .ok (.iload_n 2, 1) := dk_28 (dk_at dksX8_remembers_3 13 rfl rfl)
theorem dX8_remembers_83 : decode cX8_remembers 83 = .ok (.aload_n 0, 1) := dk_42 (dk_at dksX8_remembers_3 14 rfl rfl)
theorem dX8_remembers_84 : decode cX8_remembers 84 = .ok (.getfield 22, 3) := dk_180 0 22 (dk_at dksX8_remembers_3 15 rfl rfl)
theorem dX8_remembers_87 : decode cX8_remembers 87 = .ok (.aload_n 0, 1) := dk_42 (dk_at dksX8_remembers_3 18 rfl rfl)
theorem dX8_remembers_88 : decode cX8_remembers 88 = .ok (.getfield 65, 3) := dk_180 0 65 (dk_at dksX8_remembers_3 19 rfl rfl)
theorem dX8_remembers_91 : decode cX8_remembers 91 = .ok (.iload_n 1, 1) := dk_27 (dk_at dksX8_remembers_3 22 rfl rfl)
theorem dX8_remembers_92 : decode cX8_remembers 92 = .ok (.iaload, 1) := dk_46 (dk_at dksX8_remembers_3 23 rfl rfl)
theorem dX8_remembers_93 : decode cX8_remembers 93 = .ok (.iaload, 1) := dk_46 (dk_at dksX8_remembers_4 0 rfl rfl)
theorem dX8_remembers_94 : decode cX8_remembers 94 = .ok (.iastore, 1) := dk_79 (dk_at dksX8_remembers_4 1 rfl rfl)
theorem dX8_remembers_95 : decode cX8_remembers 95 = .ok (.aload_n 0, 1) := dk_42 (dk_at dksX8_remembers_4 2 rfl rfl)
theorem dX8_remembers_96 : decode cX8_remembers 96 = .ok (.getfield 111, 3) := dk_180 0 111 (dk_at dksX8_remembers_4 3 rfl rfl)
theorem dX8_remembers_99 : decode cX8_remembers 99 = .ok (.iload_n 2, 1) := dk_28 (dk_at dksX8_remembers_4 6 rfl rfl)
theorem dX8_remembers_100 : decode cX8_remembers 100 = .ok (.iconst (-1), 1) := dk_2 (dk_at dksX8_remembers_4 7 rfl rfl)
theorem dX8_remembers_101 : decode cX8_remembers 101 = .ok (.iastore, 1) := dk_79 (dk_at dksX8_remembers_4 8 rfl rfl)
theorem dX8_remembers_102 : decode cX8_remembers 102 = .ok (.aload_n 0, 1) := dk_42 (dk_at dksX8_remembers_4 9 rfl rfl)
theorem dX8_remembers_103 : decode cX8_remembers 103 = .ok (.getfield 114, 3) := dk_180 0 114 (dk_at dksX8_remembers_4 10 rfl rfl)
theorem dX8_remembers_106 : decode cX8_remembers 106 = .ok (.iload_n 2, 1) := dk_28 (dk_at dksX8_remembers_4 13 rfl rfl)
theorem dX8_remembers_107 : decode cX8_remembers 107 = .ok (.iconst (-1), 1) := dk_2 (dk_at dksX8_remembers_4 14 rfl rfl)
theorem dX8_remembers_108 : decode cX8_remembers 108 = .ok (.iastore, 1) := dk_79 (dk_at dksX8_remembers_4 15 rfl rfl)
theorem dX8_remembers_109 : decode cX8_remembers 109 = .ok (.aload_n 0, 1) := dk_42 (dk_at dksX8_remembers_4 16 rfl rfl)
theorem dX8_remembers_110 : decode cX8_remembers 110 = .ok (.getfield 117, 3) := dk_180 0 117 (dk_at dksX8_remembers_4 17 rfl rfl)
theorem dX8_remembers_113 : decode cX8_remembers 113 = .ok (.iload_n 2, 1) := dk_28 (dk_at dksX8_remembers_4 20 rfl rfl)
theorem dX8_remembers_114 : decode cX8_remembers 114 = .ok (.aload_n 0, 1) := dk_42 (dk_at dksX8_remembers_4 21 rfl rfl)
theorem dX8_remembers_115 : decode cX8_remembers 115 = .ok (.getfield 141, 3) := dk_180 0 141 (dk_at dksX8_remembers_5 0 rfl rfl)
theorem dX8_remembers_118 : decode cX8_remembers 118 = .ok (.iload_n 1, 1) := dk_27 (dk_at dksX8_remembers_5 3 rfl rfl)
theorem dX8_remembers_119 : decode cX8_remembers 119 = .ok (.iaload, 1) := dk_46 (dk_at dksX8_remembers_5 4 rfl rfl)
theorem dX8_remembers_120 : decode cX8_remembers 120 = .ok (.iastore, 1) := dk_79 (dk_at dksX8_remembers_5 5 rfl rfl)
theorem dX8_remembers_121 : decode cX8_remembers 121 = .ok (.iconst 0, 1) := dk_3 (dk_at dksX8_remembers_5 6 rfl rfl)
theorem dX8_remembers_122 : decode cX8_remembers 122 = .ok (.istore_n 3, 1) := dk_62 (dk_at dksX8_remembers_5 7 rfl rfl)
theorem dX8_remembers_123 : decode cX8_remembers 123 = .ok (.iload_n 3, 1) := dk_29 (dk_at dksX8_remembers_5 8 rfl rfl)
theorem dX8_remembers_124 : decode cX8_remembers 124 = .ok (.aload_n 0, 1) := dk_42 (dk_at dksX8_remembers_5 9 rfl rfl)
theorem dX8_remembers_125 : decode cX8_remembers 125 = .ok (.getfield 141, 3) := dk_180 0 141 (dk_at dksX8_remembers_5 10 rfl rfl)
theorem dX8_remembers_128 : decode cX8_remembers 128 = .ok (.iload_n 1, 1) := dk_27 (dk_at dksX8_remembers_5 13 rfl rfl)
theorem dX8_remembers_129 : decode cX8_remembers 129 = .ok (.iaload, 1) := dk_46 (dk_at dksX8_remembers_5 14 rfl rfl)
theorem dX8_remembers_130 : decode cX8_remembers 130 = .ok (.if_icmp .ge 31, 3) := dk_162 0 31 (dk_at dksX8_remembers_5 15 rfl rfl)
theorem dX8_remembers_133 : decode cX8_remembers 133 = .ok (.aload_n 0, 1) := dk_42 (dk_at dksX8_remembers_5 18 rfl rfl)
theorem dX8_remembers_134 : decode cX8_remembers 134 = .ok (.getfield 120, 3) := dk_180 0 120 (dk_at dksX8_remembers_5 19 rfl rfl)
theorem dX8_remembers_137 : decode cX8_remembers 137 = .ok (.bipush 12, 2) := dk_16 12 (dk_at dksX8_remembers_5 22 rfl rfl)
theorem dX8_remembers_139 : decode cX8_remembers 139 = .ok (.iload_n 2, 1) := dk_28 (dk_at dksX8_remembers_6 0 rfl rfl)
theorem dX8_remembers_140 : decode cX8_remembers 140 = .ok (.imul, 1) := dk_104 (dk_at dksX8_remembers_6 1 rfl rfl)
theorem dX8_remembers_141 : decode cX8_remembers 141 = .ok (.iload_n 3, 1) := dk_29 (dk_at dksX8_remembers_6 2 rfl rfl)
theorem dX8_remembers_142 : decode cX8_remembers 142 = .ok (.iadd, 1) := dk_96 (dk_at dksX8_remembers_6 3 rfl rfl)
theorem dX8_remembers_143 : decode cX8_remembers 143 = .ok (.aload_n 0, 1) := dk_42 (dk_at dksX8_remembers_6 4 rfl rfl)
theorem dX8_remembers_144 : decode cX8_remembers 144 = .ok (.getfield 144, 3) := dk_180 0 144 (dk_at dksX8_remembers_6 5 rfl rfl)
theorem dX8_remembers_147 : decode cX8_remembers 147 = .ok (.bipush 12, 2) := dk_16 12 (dk_at dksX8_remembers_6 8 rfl rfl)
theorem dX8_remembers_149 : decode cX8_remembers 149 = .ok (.iload_n 1, 1) := dk_27 (dk_at dksX8_remembers_6 10 rfl rfl)
theorem dX8_remembers_150 : decode cX8_remembers 150 = .ok (.imul, 1) := dk_104 (dk_at dksX8_remembers_6 11 rfl rfl)
theorem dX8_remembers_151 : decode cX8_remembers 151 = .ok (.iload_n 3, 1) := dk_29 (dk_at dksX8_remembers_6 12 rfl rfl)
theorem dX8_remembers_152 : decode cX8_remembers 152 = .ok (.iadd, 1) := dk_96 (dk_at dksX8_remembers_6 13 rfl rfl)
theorem dX8_remembers_153 : decode cX8_remembers 153 = .ok (.iaload, 1) := dk_46 (dk_at dksX8_remembers_6 14 rfl rfl)
theorem dX8_remembers_154 : decode cX8_remembers 154 = .ok (.iastore, 1) := dk_79 (dk_at dksX8_remembers_6 15 rfl rfl)
theorem dX8_remembers_155 : decode cX8_remembers 155 = .ok (.iinc 3 1, 3) := dk_132 3 1 (dk_at dksX8_remembers_6 16 rfl rfl)
theorem dX8_remembers_158 : decode cX8_remembers 158 = .ok (.goto (-35), 3) := dk_167 255 221 (dk_at dksX8_remembers_6 19 rfl rfl)
theorem dX8_remembers_161 : decode cX8_remembers 161 = .ok (.iconst 0, 1) := dk_3 (dk_at dksX8_remembers_6 22 rfl rfl)
theorem dX8_remembers_162 : decode cX8_remembers 162 = .ok (.istore_n 3, 1) := dk_62 (dk_at dksX8_remembers_6 23 rfl rfl)
theorem dX8_remembers_163 : decode cX8_remembers 163 = .ok (.iload_n 3, 1) := dk_29 (dk_at dksX8_remembers_7 0 rfl rfl)
theorem dX8_remembers_164 : decode cX8_remembers 164 = .ok (.aload_n 0, 1) := dk_42 (dk_at dksX8_remembers_7 1 rfl rfl)
theorem dX8_remembers_165 : decode cX8_remembers 165 = .ok (.getfield 141, 3) := dk_180 0 141 (dk_at dksX8_remembers_7 2 rfl rfl)
theorem dX8_remembers_168 : decode cX8_remembers 168 = .ok (.iload_n 1, 1) := dk_27 (dk_at dksX8_remembers_7 5 rfl rfl)
theorem dX8_remembers_169 : decode cX8_remembers 169 = .ok (.iaload, 1) := dk_46 (dk_at dksX8_remembers_7 6 rfl rfl)
theorem dX8_remembers_170 : decode cX8_remembers 170 = .ok (.iconst 4, 1) := dk_7 (dk_at dksX8_remembers_7 7 rfl rfl)
theorem dX8_remembers_171 : decode cX8_remembers 171 = .ok (.imul, 1) := dk_104 (dk_at dksX8_remembers_7 8 rfl rfl)
theorem dX8_remembers_172 : decode cX8_remembers 172 = .ok (.if_icmp .ge 31, 3) := dk_162 0 31 (dk_at dksX8_remembers_7 9 rfl rfl)
theorem dX8_remembers_175 : decode cX8_remembers 175 = .ok (.aload_n 0, 1) := dk_42 (dk_at dksX8_remembers_7 12 rfl rfl)
theorem dX8_remembers_176 : decode cX8_remembers 176 = .ok (.getfield 123, 3) := dk_180 0 123 (dk_at dksX8_remembers_7 13 rfl rfl)
theorem dX8_remembers_179 : decode cX8_remembers 179 = .ok (.bipush 48, 2) := dk_16 48 (dk_at dksX8_remembers_7 16 rfl rfl)
theorem dX8_remembers_181 : decode cX8_remembers 181 = .ok (.iload_n 2, 1) := dk_28 (dk_at dksX8_remembers_7 18 rfl rfl)
theorem dX8_remembers_182 : decode cX8_remembers 182 = .ok (.imul, 1) := dk_104 (dk_at dksX8_remembers_7 19 rfl rfl)
theorem dX8_remembers_183 : decode cX8_remembers 183 = .ok (.iload_n 3, 1) := dk_29 (dk_at dksX8_remembers_7 20 rfl rfl)
theorem dX8_remembers_184 : decode cX8_remembers 184 = .ok (.iadd, 1) := dk_96 (dk_at dksX8_remembers_7 21 rfl rfl)
theorem dX8_remembers_185 : decode cX8_remembers 185 = .ok (.aload_n 0, 1) := dk_42 (dk_at dksX8_remembers_7 22 rfl rfl)
theorem dX8_remembers_186 : decode cX8_remembers 186 = .ok (.getfield 147, 3) := dk_180 0 147 (dk_at dksX8_remembers_8 0 rfl rfl)
theorem dX8_remembers_189 : decode cX8_remembers 189 = .ok (.bipush 48, 2) := dk_16 48 (dk_at dksX8_remembers_8 3 rfl rfl)
theorem dX8_remembers_191 : decode cX8_remembers 191 = .ok (.iload_n 1, 1) := dk_27 (dk_at dksX8_remembers_8 5 rfl rfl)
theorem dX8_remembers_192 : decode cX8_remembers 192 = .ok (.imul, 1) := dk_104 (dk_at dksX8_remembers_8 6 rfl rfl)
theorem dX8_remembers_193 : decode cX8_remembers 193 = .ok (.iload_n 3, 1) := dk_29 (dk_at dksX8_remembers_8 7 rfl rfl)
theorem dX8_remembers_194 : decode cX8_remembers 194 = .ok (.iadd, 1) := dk_96 (dk_at dksX8_remembers_8 8 rfl rfl)
theorem dX8_remembers_195 : decode cX8_remembers 195 = .ok (.iaload, 1) := dk_46 (dk_at dksX8_remembers_8 9 rfl rfl)
theorem dX8_remembers_196 : decode cX8_remembers 196 = .ok (.iastore, 1) := dk_79 (dk_at dksX8_remembers_8 10 rfl rfl)
theorem dX8_remembers_197 : decode cX8_remembers 197 = .ok (.iinc 3 1, 3) := dk_132 3 1 (dk_at dksX8_remembers_8 11 rfl rfl)
theorem dX8_remembers_200 : decode cX8_remembers 200 = .ok (.goto (-37), 3) := dk_167 255 219 (dk_at dksX8_remembers_8 14 rfl rfl)
theorem dX8_remembers_203 : decode cX8_remembers 203 = .ok (.aload_n 0, 1) := dk_42 (dk_at dksX8_remembers_8 17 rfl rfl)
theorem dX8_remembers_204 : decode cX8_remembers 204 = .ok (.getfield 126, 3) := dk_180 0 126 (dk_at dksX8_remembers_8 18 rfl rfl)
theorem dX8_remembers_207 : decode cX8_remembers 207 = .ok (.iload_n 2, 1) := dk_28 (dk_at dksX8_remembers_8 21 rfl rfl)
theorem dX8_remembers_208 : decode cX8_remembers 208 = .ok (.iconst 0, 1) := dk_3 (dk_at dksX8_remembers_8 22 rfl rfl)
theorem dX8_remembers_209 : decode cX8_remembers 209 = .ok (.iastore, 1) := dk_79 (dk_at dksX8_remembers_8 23 rfl rfl)
theorem dX8_remembers_210 : decode cX8_remembers 210 = .ok (.iconst 0, 1) := dk_3 (dk_at dksX8_remembers_9 0 rfl rfl)
theorem dX8_remembers_211 : decode cX8_remembers 211 = .ok (.istore_n 3, 1) := dk_62 (dk_at dksX8_remembers_9 1 rfl rfl)
theorem dX8_remembers_212 : decode cX8_remembers 212 = .ok (.iload_n 3, 1) := dk_29 (dk_at dksX8_remembers_9 2 rfl rfl)
theorem dX8_remembers_213 : decode cX8_remembers 213 = .ok (.aload_n 0, 1) := dk_42 (dk_at dksX8_remembers_9 3 rfl rfl)
theorem dX8_remembers_214 : decode cX8_remembers 214 = .ok (.getfield 311, 3) := dk_180 1 55 (dk_at dksX8_remembers_9 4 rfl rfl)
theorem dX8_remembers_217 : decode cX8_remembers 217 = .ok (.if_icmp .ge 79, 3) := dk_162 0 79 (dk_at dksX8_remembers_9 7 rfl rfl)
theorem dX8_remembers_220 : decode cX8_remembers 220 = .ok (.aload_n 0, 1) := dk_42 (dk_at dksX8_remembers_9 10 rfl rfl)
theorem dX8_remembers_221 : decode cX8_remembers 221 = .ok (.iload_n 3, 1) := dk_29 (dk_at dksX8_remembers_9 11 rfl rfl)
theorem dX8_remembers_222 : decode cX8_remembers 222 = .ok (.iload_n 1, 1) := dk_27 (dk_at dksX8_remembers_9 12 rfl rfl)
theorem dX8_remembers_223 : decode cX8_remembers 223 = .ok (.invokevirtual 324, 3) := dk_182 1 68 (dk_at dksX8_remembers_9 13 rfl rfl)
theorem dX8_remembers_226 : decode cX8_remembers 226 = .ok (.ifCond .eq 64, 3) := dk_153 0 64 (dk_at dksX8_remembers_9 16 rfl rfl)
theorem dX8_remembers_229 : decode cX8_remembers 229 = .ok (.iconst 4, 1) := dk_7 (dk_at dksX8_remembers_9 19 rfl rfl)
theorem dX8_remembers_230 : decode cX8_remembers 230 = .ok (.iload_n 2, 1) := dk_28 (dk_at dksX8_remembers_9 20 rfl rfl)
theorem dX8_remembers_231 : decode cX8_remembers 231 = .ok (.imul, 1) := dk_104 (dk_at dksX8_remembers_9 21 rfl rfl)
theorem dX8_remembers_232 : decode cX8_remembers 232 = .ok (.aload_n 0, 1) := dk_42 (dk_at dksX8_remembers_9 22 rfl rfl)
theorem dX8_remembers_233 : decode cX8_remembers 233 = .ok (.getfield 126, 3) := dk_180 0 126 (dk_at dksX8_remembers_10 0 rfl rfl)
theorem dX8_remembers_236 : decode cX8_remembers 236 = .ok (.iload_n 2, 1) := dk_28 (dk_at dksX8_remembers_10 3 rfl rfl)
theorem dX8_remembers_237 : decode cX8_remembers 237 = .ok (.iaload, 1) := dk_46 (dk_at dksX8_remembers_10 4 rfl rfl)
theorem dX8_remembers_238 : decode cX8_remembers 238 = .ok (.iadd, 1) := dk_96 (dk_at dksX8_remembers_10 5 rfl rfl)
theorem dX8_remembers_239 : decode cX8_remembers 239 = .ok (.istore 4, 2) := dk_54 4 (dk_at dksX8_remembers_10 6 rfl rfl)
theorem dX8_remembers_241 : decode cX8_remembers 241 = .ok (.aload_n 0, 1) := dk_42 (dk_at dksX8_remembers_10 8 rfl rfl)
theorem dX8_remembers_242 : decode cX8_remembers 242 = .ok (.getfield 129, 3) := dk_180 0 129 (dk_at dksX8_remembers_10 9 rfl rfl)
theorem dX8_remembers_245 : decode cX8_remembers 245 = .ok (.iload 4, 2) := dk_21 4 (dk_at dksX8_remembers_10 12 rfl rfl)
theorem dX8_remembers_247 : decode cX8_remembers 247 = .ok (.aload_n 0, 1) := dk_42 (dk_at dksX8_remembers_10 14 rfl rfl)
theorem dX8_remembers_248 : decode cX8_remembers 248 = .ok (.getfield 83, 3) := dk_180 0 83 (dk_at dksX8_remembers_10 15 rfl rfl)
theorem dX8_remembers_251 : decode cX8_remembers 251 = .ok (.iload_n 3, 1) := dk_29 (dk_at dksX8_remembers_10 18 rfl rfl)
theorem dX8_remembers_252 : decode cX8_remembers 252 = .ok (.iaload, 1) := dk_46 (dk_at dksX8_remembers_10 19 rfl rfl)
theorem dX8_remembers_253 : decode cX8_remembers 253 = .ok (.iastore, 1) := dk_79 (dk_at dksX8_remembers_10 20 rfl rfl)
theorem dX8_remembers_254 : decode cX8_remembers 254 = .ok (.aload_n 0, 1) := dk_42 (dk_at dksX8_remembers_10 21 rfl rfl)
theorem dX8_remembers_255 : decode cX8_remembers 255 = .ok (.getfield 132, 3) := dk_180 0 132 (dk_at dksX8_remembers_11 0 rfl rfl)
theorem dX8_remembers_258 : decode cX8_remembers 258 = .ok (.iload 4, 2) := dk_21 4 (dk_at dksX8_remembers_11 3 rfl rfl)
theorem dX8_remembers_260 : decode cX8_remembers 260 = .ok (.aload_n 0, 1) := dk_42 (dk_at dksX8_remembers_11 5 rfl rfl)
theorem dX8_remembers_261 : decode cX8_remembers 261 = .ok (.getfield 86, 3) := dk_180 0 86 (dk_at dksX8_remembers_11 6 rfl rfl)
theorem dX8_remembers_264 : decode cX8_remembers 264 = .ok (.iload_n 3, 1) := dk_29 (dk_at dksX8_remembers_11 9 rfl rfl)
theorem dX8_remembers_265 : decode cX8_remembers 265 = .ok (.iaload, 1) := dk_46 (dk_at dksX8_remembers_11 10 rfl rfl)
theorem dX8_remembers_266 : decode cX8_remembers 266 = .ok (.iastore, 1) := dk_79 (dk_at dksX8_remembers_11 11 rfl rfl)
theorem dX8_remembers_267 : decode cX8_remembers 267 = .ok (.aload_n 0, 1) := dk_42 (dk_at dksX8_remembers_11 12 rfl rfl)
theorem dX8_remembers_268 : decode cX8_remembers 268 = .ok (.getfield 135, 3) := dk_180 0 135 (dk_at dksX8_remembers_11 13 rfl rfl)
theorem dX8_remembers_271 : decode cX8_remembers 271 = .ok (.iload 4, 2) := dk_21 4 (dk_at dksX8_remembers_11 16 rfl rfl)
theorem dX8_remembers_273 : decode cX8_remembers 273 = .ok (.aload_n 0, 1) := dk_42 (dk_at dksX8_remembers_11 18 rfl rfl)
theorem dX8_remembers_274 : decode cX8_remembers 274 = .ok (.getfield 89, 3) := dk_180 0 89 (dk_at dksX8_remembers_11 19 rfl rfl)
theorem dX8_remembers_277 : decode cX8_remembers 277 = .ok (.iload_n 3, 1) := dk_29 (dk_at dksX8_remembers_11 22 rfl rfl)
theorem dX8_remembers_278 : decode cX8_remembers 278 = .ok (.iaload, 1) := dk_46 (dk_at dksX8_remembers_11 23 rfl rfl)
theorem dX8_remembers_279 : decode cX8_remembers 279 = .ok (.iastore, 1) := dk_79 (dk_at dksX8_remembers_12 0 rfl rfl)
theorem dX8_remembers_280 : decode cX8_remembers 280 = .ok (.aload_n 0, 1) := dk_42 (dk_at dksX8_remembers_12 1 rfl rfl)
theorem dX8_remembers_281 : decode cX8_remembers 281 = .ok (.getfield 126, 3) := dk_180 0 126 (dk_at dksX8_remembers_12 2 rfl rfl)
theorem dX8_remembers_284 : decode cX8_remembers 284 = .ok (.iload_n 2, 1) := dk_28 (dk_at dksX8_remembers_12 5 rfl rfl)
theorem dX8_remembers_285 : decode cX8_remembers 285 = .ok (.dup2, 1) := dk_92 (dk_at dksX8_remembers_12 6 rfl rfl)
theorem dX8_remembers_286 : decode cX8_remembers 286 = .ok (.iaload, 1) := dk_46 (dk_at dksX8_remembers_12 7 rfl rfl)
theorem dX8_remembers_287 : decode cX8_remembers 287 = .ok (.iconst 1, 1) := dk_4 (dk_at dksX8_remembers_12 8 rfl rfl)
theorem dX8_remembers_288 : decode cX8_remembers 288 = .ok (.iadd, 1) := dk_96 (dk_at dksX8_remembers_12 9 rfl rfl)
theorem dX8_remembers_289 : decode cX8_remembers 289 = .ok (.iastore, 1) := dk_79 (dk_at dksX8_remembers_12 10 rfl rfl)
theorem dX8_remembers_290 : decode cX8_remembers 290 = .ok (.iinc 3 1, 3) := dk_132 3 1 (dk_at dksX8_remembers_12 11 rfl rfl)
theorem dX8_remembers_293 : decode cX8_remembers 293 = .ok (.goto (-81), 3) := dk_167 255 175 (dk_at dksX8_remembers_12 14 rfl rfl)
theorem dX8_remembers_296 : decode cX8_remembers 296 = .ok (.return_, 1) := dk_177 (dk_at dksX8_remembers_12 17 rfl rfl)
abbrev cX8_makes : ByteArray := prog_20_method_78_code
def yX8_makes : MethodName := ⟨RX8, "makes", "(Z)V"⟩
def dkwX8_makes_7 : List UInt8 := [42, 182, 1, 199, 61, 167, 255, 215, 42, 180, 1, 61, 153, 0, 7, 42, 182, 1, 202, 177]
abbrev dktX8_makes_7 : List UInt8 := dkwX8_makes_7 ++ []
def dkwX8_makes_6 : List UInt8 := [180, 1, 61, 153, 0, 10, 42, 182, 1, 193, 167, 0, 14, 42, 182, 1, 189, 153, 0, 7, 42, 182, 1, 196]
abbrev dktX8_makes_6 : List UInt8 := dkwX8_makes_6 ++ dktX8_makes_7
def dkwX8_makes_5 : List UInt8 := [167, 0, 7, 42, 180, 1, 58, 181, 1, 186, 28, 153, 0, 43, 42, 182, 1, 189, 153, 0, 17, 42]
abbrev dktX8_makes_5 : List UInt8 := dkwX8_makes_5 ++ dktX8_makes_6
def dkwX8_makes_4 : List UInt8 := [167, 255, 166, 42, 3, 181, 1, 173, 42, 3, 181, 1, 176, 42, 42, 180, 1, 61, 153, 0, 7, 6]
abbrev dktX8_makes_4 : List UInt8 := dkwX8_makes_4 ++ dktX8_makes_5
def dkwX8_makes_3 : List UInt8 := [28, 153, 0, 16, 42, 180, 0, 159, 29, 46, 158, 0, 7, 4, 167, 0, 4, 3, 61, 132, 3, 1]
abbrev dktX8_makes_3 : List UInt8 := dkwX8_makes_3 ++ dktX8_makes_4
def dkwX8_makes_2 : List UInt8 := [42, 180, 0, 65, 29, 46, 46, 162, 0, 17, 42, 29, 27, 21, 4, 182, 1, 182, 132, 4, 1, 167, 255, 216]
abbrev dktX8_makes_2 : List UInt8 := dkwX8_makes_2 ++ dktX8_makes_3
def dkwX8_makes_1 : List UInt8 := [3, 79, 3, 54, 4, 21, 4, 27, 153, 0, 12, 42, 180, 0, 141, 29, 46, 167, 0, 14, 42, 180, 0, 7]
abbrev dktX8_makes_1 : List UInt8 := dkwX8_makes_1 ++ dktX8_makes_2
def dkwX8_makes_0 : List UInt8 := [4, 61, 3, 62, 29, 42, 180, 1, 43, 162, 0, 88, 42, 180, 0, 159, 29, 3, 79, 42, 180, 0, 165, 29]
abbrev dktX8_makes_0 : List UInt8 := dkwX8_makes_0 ++ dktX8_makes_1
theorem dksX8_makes_0 : cX8_makes.data.toList.drop 0 = dktX8_makes_0 := by decide +kernel
theorem dksX8_makes_1 : cX8_makes.data.toList.drop 24 = dktX8_makes_1 := dk_seg dksX8_makes_0 24 rfl rfl
theorem dksX8_makes_2 : cX8_makes.data.toList.drop 48 = dktX8_makes_2 := dk_seg dksX8_makes_1 24 rfl rfl
theorem dksX8_makes_3 : cX8_makes.data.toList.drop 72 = dktX8_makes_3 := dk_seg dksX8_makes_2 24 rfl rfl
theorem dksX8_makes_4 : cX8_makes.data.toList.drop 94 = dktX8_makes_4 := dk_seg dksX8_makes_3 22 rfl rfl
theorem dksX8_makes_5 : cX8_makes.data.toList.drop 116 = dktX8_makes_5 := dk_seg dksX8_makes_4 22 rfl rfl
theorem dksX8_makes_6 : cX8_makes.data.toList.drop 138 = dktX8_makes_6 := dk_seg dksX8_makes_5 22 rfl rfl
theorem dksX8_makes_7 : cX8_makes.data.toList.drop 162 = dktX8_makes_7 := dk_seg dksX8_makes_6 24 rfl rfl
theorem dX8_makes_0 : decode cX8_makes 0 = .ok (.iconst 1, 1) := dk_4 (dk_at dksX8_makes_0 0 rfl rfl)
theorem dX8_makes_1 : decode cX8_makes 1 = .ok (.istore_n 2, 1) := dk_61 (dk_at dksX8_makes_0 1 rfl rfl)
theorem dX8_makes_2 : decode cX8_makes 2 = .ok (.iconst 0, 1) := dk_3 (dk_at dksX8_makes_0 2 rfl rfl)
theorem dX8_makes_3 : decode cX8_makes 3 = .ok (.istore_n 3, 1) := dk_62 (dk_at dksX8_makes_0 3 rfl rfl)
theorem dX8_makes_4 : decode cX8_makes 4 = .ok (.iload_n 3, 1) := dk_29 (dk_at dksX8_makes_0 4 rfl rfl)
theorem dX8_makes_5 : decode cX8_makes 5 = .ok (.aload_n 0, 1) := dk_42 (dk_at dksX8_makes_0 5 rfl rfl)
theorem dX8_makes_6 : decode cX8_makes 6 = .ok (.getfield 299, 3) := dk_180 1 43 (dk_at dksX8_makes_0 6 rfl rfl)
theorem dX8_makes_9 : decode cX8_makes 9 = .ok (.if_icmp .ge 88, 3) := dk_162 0 88 (dk_at dksX8_makes_0 9 rfl rfl)
theorem dX8_makes_12 : decode cX8_makes 12 = .ok (.aload_n 0, 1) := dk_42 (dk_at dksX8_makes_0 12 rfl rfl)
theorem dX8_makes_13 : decode cX8_makes 13 = .ok (.getfield 159, 3) := dk_180 0 159 (dk_at dksX8_makes_0 13 rfl rfl)
theorem dX8_makes_16 : decode cX8_makes 16 = .ok (.iload_n 3, 1) := dk_29 (dk_at dksX8_makes_0 16 rfl rfl)
theorem dX8_makes_17 : decode cX8_makes 17 = .ok (.iconst 0, 1) := dk_3 (dk_at dksX8_makes_0 17 rfl rfl)
theorem dX8_makes_18 : decode cX8_makes 18 = .ok (.iastore, 1) := dk_79 (dk_at dksX8_makes_0 18 rfl rfl)
theorem dX8_makes_19 : decode cX8_makes 19 = .ok (.aload_n 0, 1) := dk_42 (dk_at dksX8_makes_0 19 rfl rfl)
theorem dX8_makes_20 : decode cX8_makes 20 = .ok (.getfield 165, 3) := dk_180 0 165 (dk_at dksX8_makes_0 20 rfl rfl)
theorem dX8_makes_23 : decode cX8_makes 23 = .ok (.iload_n 3, 1) := dk_29 (dk_at dksX8_makes_0 23 rfl rfl)
theorem dX8_makes_24 : decode cX8_makes 24 = .ok (.iconst 0, 1) := dk_3 (dk_at dksX8_makes_1 0 rfl rfl)
theorem dX8_makes_25 : decode cX8_makes 25 = .ok (.iastore, 1) := dk_79 (dk_at dksX8_makes_1 1 rfl rfl)
theorem dX8_makes_26 : decode cX8_makes 26 = .ok (.iconst 0, 1) := dk_3 (dk_at dksX8_makes_1 2 rfl rfl)
theorem dX8_makes_27 : decode cX8_makes 27 = .ok (.istore 4, 2) := dk_54 4 (dk_at dksX8_makes_1 3 rfl rfl)
theorem dX8_makes_29 : decode cX8_makes 29 = .ok (.iload 4, 2) := dk_21 4 (dk_at dksX8_makes_1 5 rfl rfl)
theorem dX8_makes_31 : decode cX8_makes 31 = .ok (.iload_n 1, 1) := dk_27 (dk_at dksX8_makes_1 7 rfl rfl)
theorem dX8_makes_32 : decode cX8_makes 32 = .ok (.ifCond .eq 12, 3) := dk_153 0 12 (dk_at dksX8_makes_1 8 rfl rfl)
theorem dX8_makes_35 : decode cX8_makes 35 = .ok (.aload_n 0, 1) := dk_42 (dk_at dksX8_makes_1 11 rfl rfl)
theorem dX8_makes_36 : decode cX8_makes 36 = .ok (.getfield 141, 3) := dk_180 0 141 (dk_at dksX8_makes_1 12 rfl rfl)
theorem dX8_makes_39 : decode cX8_makes 39 = .ok (.iload_n 3, 1) := dk_29 (dk_at dksX8_makes_1 15 rfl rfl)
theorem dX8_makes_40 : decode cX8_makes 40 = .ok (.iaload, 1) := dk_46 (dk_at dksX8_makes_1 16 rfl rfl)
theorem dX8_makes_41 : decode cX8_makes 41 = .ok (.goto 14, 3) := dk_167 0 14 (dk_at dksX8_makes_1 17 rfl rfl)
theorem dX8_makes_44 : decode cX8_makes 44 = .ok (.aload_n 0, 1) := dk_42 (dk_at dksX8_makes_1 20 rfl rfl)
theorem dX8_makes_45 : decode cX8_makes 45 = .ok (.getfield 7, 3) := dk_180 0 7 (dk_at dksX8_makes_1 21 rfl rfl)
theorem dX8_makes_48 : decode cX8_makes 48 = .ok (.aload_n 0, 1) := dk_42 (dk_at dksX8_makes_2 0 rfl rfl)
theorem dX8_makes_49 : decode cX8_makes 49 = .ok (.getfield 65, 3) := dk_180 0 65 (dk_at dksX8_makes_2 1 rfl rfl)
theorem dX8_makes_52 : decode cX8_makes 52 = .ok (.iload_n 3, 1) := dk_29 (dk_at dksX8_makes_2 4 rfl rfl)
theorem dX8_makes_53 : decode cX8_makes 53 = .ok (.iaload, 1) := dk_46 (dk_at dksX8_makes_2 5 rfl rfl)
theorem dX8_makes_54 : decode cX8_makes 54 = .ok (.iaload, 1) := dk_46 (dk_at dksX8_makes_2 6 rfl rfl)
theorem dX8_makes_55 : decode cX8_makes 55 = .ok (.if_icmp .ge 17, 3) := dk_162 0 17 (dk_at dksX8_makes_2 7 rfl rfl)
theorem dX8_makes_58 : decode cX8_makes 58 = .ok (.aload_n 0, 1) := dk_42 (dk_at dksX8_makes_2 10 rfl rfl)
theorem dX8_makes_59 : decode cX8_makes 59 = .ok (.iload_n 3, 1) := dk_29 (dk_at dksX8_makes_2 11 rfl rfl)
theorem dX8_makes_60 : decode cX8_makes 60 = .ok (.iload_n 1, 1) := dk_27 (dk_at dksX8_makes_2 12 rfl rfl)
theorem dX8_makes_61 : decode cX8_makes 61 = .ok (.iload 4, 2) := dk_21 4 (dk_at dksX8_makes_2 13 rfl rfl)
theorem dX8_makes_63 : decode cX8_makes 63 = .ok (.invokevirtual 438, 3) := dk_182 1 182 (dk_at dksX8_makes_2 15 rfl rfl)
theorem dX8_makes_66 : decode cX8_makes 66 = .ok (.iinc 4 1, 3) := dk_132 4 1 (dk_at dksX8_makes_2 18 rfl rfl)
theorem dX8_makes_69 : decode cX8_makes 69 = .ok (.goto (-40), 3) := dk_167 255 216 (dk_at dksX8_makes_2 21 rfl rfl)
theorem dX8_makes_72 : decode cX8_makes 72 = .ok (.iload_n 2, 1) := dk_28 (dk_at dksX8_makes_3 0 rfl rfl)
theorem dX8_makes_73 : decode cX8_makes 73 = .ok (.ifCond .eq 16, 3) := dk_153 0 16 (dk_at dksX8_makes_3 1 rfl rfl)
theorem dX8_makes_76 : decode cX8_makes 76 = .ok (.aload_n 0, 1) := dk_42 (dk_at dksX8_makes_3 4 rfl rfl)
theorem dX8_makes_77 : decode cX8_makes 77 = .ok (.getfield 159, 3) := dk_180 0 159 (dk_at dksX8_makes_3 5 rfl rfl)
theorem dX8_makes_80 : decode cX8_makes 80 = .ok (.iload_n 3, 1) := dk_29 (dk_at dksX8_makes_3 8 rfl rfl)
theorem dX8_makes_81 : decode cX8_makes 81 = .ok (.iaload, 1) := dk_46 (dk_at dksX8_makes_3 9 rfl rfl)
theorem dX8_makes_82 : decode cX8_makes 82 = .ok (.ifCond .le 7, 3) := dk_158 0 7 (dk_at dksX8_makes_3 10 rfl rfl)
theorem dX8_makes_85 : decode cX8_makes 85 = .ok (.iconst 1, 1) := dk_4 (dk_at dksX8_makes_3 13 rfl rfl)
theorem dX8_makes_86 : decode cX8_makes 86 = .ok (.goto 4, 3) := dk_167 0 4 (dk_at dksX8_makes_3 14 rfl rfl)
theorem dX8_makes_89 : decode cX8_makes 89 = .ok (.iconst 0, 1) := dk_3 (dk_at dksX8_makes_3 17 rfl rfl)
theorem dX8_makes_90 : decode cX8_makes 90 = .ok (.istore_n 2, 1) := dk_61 (dk_at dksX8_makes_3 18 rfl rfl)
theorem dX8_makes_91 : decode cX8_makes 91 = .ok (.iinc 3 1, 3) := dk_132 3 1 (dk_at dksX8_makes_3 19 rfl rfl)
theorem dX8_makes_94 : decode cX8_makes 94 = .ok (.goto (-90), 3) := dk_167 255 166 (dk_at dksX8_makes_4 0 rfl rfl)
theorem dX8_makes_97 : decode cX8_makes 97 = .ok (.aload_n 0, 1) := dk_42 (dk_at dksX8_makes_4 3 rfl rfl)
theorem dX8_makes_98 : decode cX8_makes 98 = .ok (.iconst 0, 1) := dk_3 (dk_at dksX8_makes_4 4 rfl rfl)
theorem dX8_makes_99 : decode cX8_makes 99 = .ok (.putfield 429, 3) := dk_181 1 173 (dk_at dksX8_makes_4 5 rfl rfl)
theorem dX8_makes_102 : decode cX8_makes 102 = .ok (.aload_n 0, 1) := dk_42 (dk_at dksX8_makes_4 8 rfl rfl)
theorem dX8_makes_103 : decode cX8_makes 103 = .ok (.iconst 0, 1) := dk_3 (dk_at dksX8_makes_4 9 rfl rfl)
theorem dX8_makes_104 : decode cX8_makes 104 = .ok (.putfield 432, 3) := dk_181 1 176 (dk_at dksX8_makes_4 10 rfl rfl)
theorem dX8_makes_107 : decode cX8_makes 107 = .ok (.aload_n 0, 1) := dk_42 (dk_at dksX8_makes_4 13 rfl rfl)
theorem dX8_makes_108 : decode cX8_makes 108 = .ok (.aload_n 0, 1) := dk_42 (dk_at dksX8_makes_4 14 rfl rfl)
theorem dX8_makes_109 : decode cX8_makes 109 = .ok (.getfield 317, 3) := dk_180 1 61 (dk_at dksX8_makes_4 15 rfl rfl)
theorem dX8_makes_112 : decode cX8_makes 112 = .ok (.ifCond .eq 7, 3) := dk_153 0 7 (dk_at dksX8_makes_4 18 rfl rfl)
theorem dX8_makes_115 : decode cX8_makes 115 = .ok (.iconst 3, 1) := dk_6 (dk_at dksX8_makes_4 21 rfl rfl)
theorem dX8_makes_116 : decode cX8_makes 116 = .ok (.goto 7, 3) := dk_167 0 7 (dk_at dksX8_makes_5 0 rfl rfl)
theorem dX8_makes_119 : decode cX8_makes 119 = .ok (.aload_n 0, 1) := dk_42 (dk_at dksX8_makes_5 3 rfl rfl)
theorem dX8_makes_120 : decode cX8_makes 120 = .ok (.getfield 314, 3) := dk_180 1 58 (dk_at dksX8_makes_5 4 rfl rfl)
theorem dX8_makes_123 : decode cX8_makes 123 = .ok (.putfield 442, 3) := dk_181 1 186 (dk_at dksX8_makes_5 7 rfl rfl)
theorem dX8_makes_126 : decode cX8_makes 126 = .ok (.iload_n 2, 1) := dk_28 (dk_at dksX8_makes_5 10 rfl rfl)
theorem dX8_makes_127 : decode cX8_makes 127 = .ok (.ifCond .eq 43, 3) := dk_153 0 43 (dk_at dksX8_makes_5 11 rfl rfl)
theorem dX8_makes_130 : decode cX8_makes 130 = .ok (.aload_n 0, 1) := dk_42 (dk_at dksX8_makes_5 14 rfl rfl)
theorem dX8_makes_131 : decode cX8_makes 131 = .ok (.invokevirtual 445, 3) := dk_182 1 189 (dk_at dksX8_makes_5 15 rfl rfl)
theorem dX8_makes_134 : decode cX8_makes 134 = .ok (.ifCond .eq 17, 3) := dk_153 0 17 (dk_at dksX8_makes_5 18 rfl rfl)
theorem dX8_makes_137 : decode cX8_makes 137 = .ok (.aload_n 0, 1) := dk_42 (dk_at dksX8_makes_5 21 rfl rfl)
theorem dX8_makes_138 : decode cX8_makes 138 = .ok (.getfield 317, 3) := dk_180 1 61 (dk_at dksX8_makes_6 0 rfl rfl)
theorem dX8_makes_141 : decode cX8_makes 141 = .ok (.ifCond .eq 10, 3) := dk_153 0 10 (dk_at dksX8_makes_6 3 rfl rfl)
theorem dX8_makes_144 : decode cX8_makes 144 = .ok (.aload_n 0, 1) := dk_42 (dk_at dksX8_makes_6 6 rfl rfl)
theorem dX8_makes_145 : decode cX8_makes 145 = .ok (.invokevirtual 449, 3) := dk_182 1 193 (dk_at dksX8_makes_6 7 rfl rfl)
theorem dX8_makes_148 : decode cX8_makes 148 = .ok (.goto 14, 3) := dk_167 0 14 (dk_at dksX8_makes_6 10 rfl rfl)
theorem dX8_makes_151 : decode cX8_makes 151 = .ok (.aload_n 0, 1) := dk_42 (dk_at dksX8_makes_6 13 rfl rfl)
theorem dX8_makes_152 : decode cX8_makes 152 = .ok (.invokevirtual 445, 3) := dk_182 1 189 (dk_at dksX8_makes_6 14 rfl rfl)
theorem dX8_makes_155 : decode cX8_makes 155 = .ok (.ifCond .eq 7, 3) := dk_153 0 7 (dk_at dksX8_makes_6 17 rfl rfl)
theorem dX8_makes_158 : decode cX8_makes 158 = .ok (.aload_n 0, 1) := dk_42 (dk_at dksX8_makes_6 20 rfl rfl)
theorem dX8_makes_159 : decode cX8_makes 159 = .ok (.invokevirtual 452, 3) := dk_182 1 196 (dk_at dksX8_makes_6 21 rfl rfl)
theorem dX8_makes_162 : decode cX8_makes 162 = .ok (.aload_n 0, 1) := dk_42 (dk_at dksX8_makes_7 0 rfl rfl)
theorem dX8_makes_163 : decode cX8_makes 163 = .ok (.invokevirtual 455, 3) := dk_182 1 199 (dk_at dksX8_makes_7 1 rfl rfl)
theorem dX8_makes_166 : decode cX8_makes 166 = .ok (.istore_n 2, 1) := dk_61 (dk_at dksX8_makes_7 4 rfl rfl)
theorem dX8_makes_167 : decode cX8_makes 167 = .ok (.goto (-41), 3) := dk_167 255 215 (dk_at dksX8_makes_7 5 rfl rfl)
theorem dX8_makes_170 : decode cX8_makes 170 = .ok (.aload_n 0, 1) := dk_42 (dk_at dksX8_makes_7 8 rfl rfl)
theorem dX8_makes_171 : decode cX8_makes 171 = .ok (.getfield 317, 3) := dk_180 1 61 (dk_at dksX8_makes_7 9 rfl rfl)
theorem dX8_makes_174 : decode cX8_makes 174 = .ok (.ifCond .eq 7, 3) := dk_153 0 7 (dk_at dksX8_makes_7 12 rfl rfl)
theorem dX8_makes_177 : decode cX8_makes 177 = .ok (.aload_n 0, 1) := dk_42 (dk_at dksX8_makes_7 15 rfl rfl)
theorem dX8_makes_178 : decode cX8_makes 178 = .ok (.invokevirtual 458, 3) := dk_182 1 202 (dk_at dksX8_makes_7 16 rfl rfl)
theorem dX8_makes_181 : decode cX8_makes 181 = .ok (.return_, 1) := dk_177 (dk_at dksX8_makes_7 19 rfl rfl)
abbrev cX8_laysRow : ByteArray := prog_20_method_70_code
def yX8_laysRow : MethodName := ⟨RX8, "laysRow", "(IZI)V"⟩
def dkwX8_laysRow_7 : List UInt8 := [27, 92, 46, 21, 5, 153, 0, 7, 4, 167, 0, 4, 3, 96, 79, 177]
abbrev dktX8_laysRow_7 : List UInt8 := dkwX8_laysRow_7 ++ []
def dkwX8_laysRow_6 : List UInt8 := [46, 184, 1, 71, 153, 0, 7, 4, 167, 0, 4, 3, 54, 5, 132, 6, 1, 167, 255, 186, 42, 180, 0, 159]
abbrev dktX8_laysRow_6 : List UInt8 := dkwX8_laysRow_6 ++ dktX8_laysRow_7
def dkwX8_laysRow_5 : List UInt8 := [21, 6, 46, 42, 180, 0, 89, 21, 6, 46, 42, 180, 0, 162, 21, 4, 42, 180, 0, 83, 21, 6, 46, 96]
abbrev dktX8_laysRow_5 : List UInt8 := dkwX8_laysRow_5 ++ dktX8_laysRow_6
def dkwX8_laysRow_4 : List UInt8 := [162, 0, 67, 21, 5, 153, 0, 53, 42, 180, 0, 80, 21, 6, 46, 27, 160, 0, 38, 42, 180, 0, 86]
abbrev dktX8_laysRow_4 : List UInt8 := dkwX8_laysRow_4 ++ dktX8_laysRow_5
def dkwX8_laysRow_3 : List UInt8 := [104, 21, 5, 96, 46, 79, 132, 5, 1, 167, 255, 193, 4, 54, 5, 3, 54, 6, 21, 6, 42, 180, 1, 55]
abbrev dktX8_laysRow_3 : List UInt8 := dkwX8_laysRow_3 ++ dktX8_laysRow_4
def dkwX8_laysRow_2 : List UInt8 := [104, 21, 5, 96, 46, 167, 0, 24, 42, 180, 0, 16, 7, 16, 12, 42, 180, 0, 65, 27, 46, 104, 29, 96]
abbrev dktX8_laysRow_2 : List UInt8 := dkwX8_laysRow_2 ++ dktX8_laysRow_3
def dkwX8_laysRow_1 : List UInt8 := [42, 180, 0, 162, 21, 4, 21, 5, 96, 28, 153, 0, 22, 42, 180, 0, 147, 7, 16, 12, 27, 104, 29, 96]
abbrev dktX8_laysRow_1 : List UInt8 := dkwX8_laysRow_1 ++ dktX8_laysRow_2
def dkwX8_laysRow_0 : List UInt8 := [7, 16, 12, 27, 104, 42, 180, 0, 159, 27, 46, 96, 104, 54, 4, 3, 54, 5, 21, 5, 7, 162, 0, 63]
abbrev dktX8_laysRow_0 : List UInt8 := dkwX8_laysRow_0 ++ dktX8_laysRow_1
theorem dksX8_laysRow_0 : cX8_laysRow.data.toList.drop 0 = dktX8_laysRow_0 := by decide +kernel
theorem dksX8_laysRow_1 : cX8_laysRow.data.toList.drop 24 = dktX8_laysRow_1 := dk_seg dksX8_laysRow_0 24 rfl rfl
theorem dksX8_laysRow_2 : cX8_laysRow.data.toList.drop 48 = dktX8_laysRow_2 := dk_seg dksX8_laysRow_1 24 rfl rfl
theorem dksX8_laysRow_3 : cX8_laysRow.data.toList.drop 72 = dktX8_laysRow_3 := dk_seg dksX8_laysRow_2 24 rfl rfl
theorem dksX8_laysRow_4 : cX8_laysRow.data.toList.drop 96 = dktX8_laysRow_4 := dk_seg dksX8_laysRow_3 24 rfl rfl
theorem dksX8_laysRow_5 : cX8_laysRow.data.toList.drop 119 = dktX8_laysRow_5 := dk_seg dksX8_laysRow_4 23 rfl rfl
theorem dksX8_laysRow_6 : cX8_laysRow.data.toList.drop 143 = dktX8_laysRow_6 := dk_seg dksX8_laysRow_5 24 rfl rfl
theorem dksX8_laysRow_7 : cX8_laysRow.data.toList.drop 167 = dktX8_laysRow_7 := dk_seg dksX8_laysRow_6 24 rfl rfl
theorem dX8_laysRow_0 : decode cX8_laysRow 0 = .ok (.iconst 4, 1) := dk_7 (dk_at dksX8_laysRow_0 0 rfl rfl)
theorem dX8_laysRow_1 : decode cX8_laysRow 1 = .ok (.bipush 12, 2) := dk_16 12 (dk_at dksX8_laysRow_0 1 rfl rfl)
theorem dX8_laysRow_3 : decode cX8_laysRow 3 = .ok (.iload_n 1, 1) := dk_27 (dk_at dksX8_laysRow_0 3 rfl rfl)
theorem dX8_laysRow_4 : decode cX8_laysRow 4 = .ok (.imul, 1) := dk_104 (dk_at dksX8_laysRow_0 4 rfl rfl)
theorem dX8_laysRow_5 : decode cX8_laysRow 5 = .ok (.aload_n 0, 1) := dk_42 (dk_at dksX8_laysRow_0 5 rfl rfl)
theorem dX8_laysRow_6 : decode cX8_laysRow 6 = .ok (.getfield 159, 3) := dk_180 0 159 (dk_at dksX8_laysRow_0 6 rfl rfl)
theorem dX8_laysRow_9 : decode cX8_laysRow 9 = .ok (.iload_n 1, 1) := dk_27 (dk_at dksX8_laysRow_0 9 rfl rfl)
theorem dX8_laysRow_10 : decode cX8_laysRow 10 = .ok (.iaload, 1) := dk_46 (dk_at dksX8_laysRow_0 10 rfl rfl)
theorem dX8_laysRow_11 : decode cX8_laysRow 11 = .ok (.iadd, 1) := dk_96 (dk_at dksX8_laysRow_0 11 rfl rfl)
theorem dX8_laysRow_12 : decode cX8_laysRow 12 = .ok (.imul, 1) := dk_104 (dk_at dksX8_laysRow_0 12 rfl rfl)
theorem dX8_laysRow_13 : decode cX8_laysRow 13 = .ok (.istore 4, 2) := dk_54 4 (dk_at dksX8_laysRow_0 13 rfl rfl)
theorem dX8_laysRow_15 : decode cX8_laysRow 15 = .ok (.iconst 0, 1) := dk_3 (dk_at dksX8_laysRow_0 15 rfl rfl)
theorem dX8_laysRow_16 : decode cX8_laysRow 16 = .ok (.istore 5, 2) := dk_54 5 (dk_at dksX8_laysRow_0 16 rfl rfl)
theorem dX8_laysRow_18 : decode cX8_laysRow 18 = .ok (.iload 5, 2) := dk_21 5 (dk_at dksX8_laysRow_0 18 rfl rfl)
theorem dX8_laysRow_20 : decode cX8_laysRow 20 = .ok (.iconst 4, 1) := dk_7 (dk_at dksX8_laysRow_0 20 rfl rfl)
theorem dX8_laysRow_21 : decode cX8_laysRow 21 = .ok (.if_icmp .ge 63, 3) := dk_162 0 63 (dk_at dksX8_laysRow_0 21 rfl rfl)
theorem dX8_laysRow_24 : decode cX8_laysRow 24 = .ok (.aload_n 0, 1) := dk_42 (dk_at dksX8_laysRow_1 0 rfl rfl)
theorem dX8_laysRow_25 : decode cX8_laysRow 25 = .ok (.getfield 162, 3) := dk_180 0 162 (dk_at dksX8_laysRow_1 1 rfl rfl)
theorem dX8_laysRow_28 : decode cX8_laysRow 28 = .ok (.iload 4, 2) := dk_21 4 (dk_at dksX8_laysRow_1 4 rfl rfl)
theorem dX8_laysRow_30 : decode cX8_laysRow 30 = .ok (.iload 5, 2) := dk_21 5 (dk_at dksX8_laysRow_1 6 rfl rfl)
theorem dX8_laysRow_32 : decode cX8_laysRow 32 = .ok (.iadd, 1) := dk_96 (dk_at dksX8_laysRow_1 8 rfl rfl)
theorem dX8_laysRow_33 : decode cX8_laysRow 33 = .ok (.iload_n 2, 1) := dk_28 (dk_at dksX8_laysRow_1 9 rfl rfl)
theorem dX8_laysRow_34 : decode cX8_laysRow 34 = .ok (.ifCond .eq 22, 3) := dk_153 0 22 (dk_at dksX8_laysRow_1 10 rfl rfl)
theorem dX8_laysRow_37 : decode cX8_laysRow 37 = .ok (.aload_n 0, 1) := dk_42 (dk_at dksX8_laysRow_1 13 rfl rfl)
theorem dX8_laysRow_38 : decode cX8_laysRow 38 = .ok (.getfield 147, 3) := dk_180 0 147 (dk_at dksX8_laysRow_1 14 rfl rfl)
theorem dX8_laysRow_41 : decode cX8_laysRow 41 = .ok (.iconst 4, 1) := dk_7 (dk_at dksX8_laysRow_1 17 rfl rfl)
theorem dX8_laysRow_42 : decode cX8_laysRow 42 = .ok (.bipush 12, 2) := dk_16 12 (dk_at dksX8_laysRow_1 18 rfl rfl)
theorem dX8_laysRow_44 : decode cX8_laysRow 44 = .ok (.iload_n 1, 1) := dk_27 (dk_at dksX8_laysRow_1 20 rfl rfl)
theorem dX8_laysRow_45 : decode cX8_laysRow 45 = .ok (.imul, 1) := dk_104 (dk_at dksX8_laysRow_1 21 rfl rfl)
theorem dX8_laysRow_46 : decode cX8_laysRow 46 = .ok (.iload_n 3, 1) := dk_29 (dk_at dksX8_laysRow_1 22 rfl rfl)
theorem dX8_laysRow_47 : decode cX8_laysRow 47 = .ok (.iadd, 1) := dk_96 (dk_at dksX8_laysRow_1 23 rfl rfl)
theorem dX8_laysRow_48 : decode cX8_laysRow 48 = .ok (.imul, 1) := dk_104 (dk_at dksX8_laysRow_2 0 rfl rfl)
theorem dX8_laysRow_49 : decode cX8_laysRow 49 = .ok (.iload 5, 2) := dk_21 5 (dk_at dksX8_laysRow_2 1 rfl rfl)
theorem dX8_laysRow_51 : decode cX8_laysRow 51 = .ok (.iadd, 1) := dk_96 (dk_at dksX8_laysRow_2 3 rfl rfl)
theorem dX8_laysRow_52 : decode cX8_laysRow 52 = .ok (.iaload, 1) := dk_46 (dk_at dksX8_laysRow_2 4 rfl rfl)
theorem dX8_laysRow_53 : decode cX8_laysRow 53 = .ok (.goto 24, 3) := dk_167 0 24 (dk_at dksX8_laysRow_2 5 rfl rfl)
theorem dX8_laysRow_56 : decode cX8_laysRow 56 = .ok (.aload_n 0, 1) := dk_42 (dk_at dksX8_laysRow_2 8 rfl rfl)
theorem dX8_laysRow_57 : decode cX8_laysRow 57 = .ok (.getfield 16, 3) := dk_180 0 16 (dk_at dksX8_laysRow_2 9 rfl rfl)
theorem dX8_laysRow_60 : decode cX8_laysRow 60 = .ok (.iconst 4, 1) := dk_7 (dk_at dksX8_laysRow_2 12 rfl rfl)
theorem dX8_laysRow_61 : decode cX8_laysRow 61 = .ok (.bipush 12, 2) := dk_16 12 (dk_at dksX8_laysRow_2 13 rfl rfl)
theorem dX8_laysRow_63 : decode cX8_laysRow 63 = .ok (.aload_n 0, 1) := dk_42 (dk_at dksX8_laysRow_2 15 rfl rfl)
theorem dX8_laysRow_64 : decode cX8_laysRow 64 = .ok (.getfield 65, 3) := dk_180 0 65 (dk_at dksX8_laysRow_2 16 rfl rfl)
theorem dX8_laysRow_67 : decode cX8_laysRow 67 = .ok (.iload_n 1, 1) := dk_27 (dk_at dksX8_laysRow_2 19 rfl rfl)
theorem dX8_laysRow_68 : decode cX8_laysRow 68 = .ok (.iaload, 1) := dk_46 (dk_at dksX8_laysRow_2 20 rfl rfl)
theorem dX8_laysRow_69 : decode cX8_laysRow 69 = .ok (.imul, 1) := dk_104 (dk_at dksX8_laysRow_2 21 rfl rfl)
theorem dX8_laysRow_70 : decode cX8_laysRow 70 = .ok (.iload_n 3, 1) := dk_29 (dk_at dksX8_laysRow_2 22 rfl rfl)
theorem dX8_laysRow_71 : decode cX8_laysRow 71 = .ok (.iadd, 1) := dk_96 (dk_at dksX8_laysRow_2 23 rfl rfl)
theorem dX8_laysRow_72 : decode cX8_laysRow 72 = .ok (.imul, 1) := dk_104 (dk_at dksX8_laysRow_3 0 rfl rfl)
theorem dX8_laysRow_73 : decode cX8_laysRow 73 = .ok (.iload 5, 2) := dk_21 5 (dk_at dksX8_laysRow_3 1 rfl rfl)
theorem dX8_laysRow_75 : decode cX8_laysRow 75 = .ok (.iadd, 1) := dk_96 (dk_at dksX8_laysRow_3 3 rfl rfl)
theorem dX8_laysRow_76 : decode cX8_laysRow 76 = .ok (.iaload, 1) := dk_46 (dk_at dksX8_laysRow_3 4 rfl rfl)
theorem dX8_laysRow_77 : decode cX8_laysRow 77 = .ok (.iastore, 1) := dk_79 (dk_at dksX8_laysRow_3 5 rfl rfl)
theorem dX8_laysRow_78 : decode cX8_laysRow 78 = .ok (.iinc 5 1, 3) := dk_132 5 1 (dk_at dksX8_laysRow_3 6 rfl rfl)
theorem dX8_laysRow_81 : decode cX8_laysRow 81 = .ok (.goto (-63), 3) := dk_167 255 193 (dk_at dksX8_laysRow_3 9 rfl rfl)
theorem dX8_laysRow_84 : decode cX8_laysRow 84 = .ok (.iconst 1, 1) := dk_4 (dk_at dksX8_laysRow_3 12 rfl rfl)
theorem dX8_laysRow_85 : decode cX8_laysRow 85 = .ok (.istore 5, 2) := dk_54 5 (dk_at dksX8_laysRow_3 13 rfl rfl)
theorem dX8_laysRow_87 : decode cX8_laysRow 87 = .ok (.iconst 0, 1) := dk_3 (dk_at dksX8_laysRow_3 15 rfl rfl)
theorem dX8_laysRow_88 : decode cX8_laysRow 88 = .ok (.istore 6, 2) := dk_54 6 (dk_at dksX8_laysRow_3 16 rfl rfl)
theorem dX8_laysRow_90 : decode cX8_laysRow 90 = .ok (.iload 6, 2) := dk_21 6 (dk_at dksX8_laysRow_3 18 rfl rfl)
theorem dX8_laysRow_92 : decode cX8_laysRow 92 = .ok (.aload_n 0, 1) := dk_42 (dk_at dksX8_laysRow_3 20 rfl rfl)
theorem dX8_laysRow_93 : decode cX8_laysRow 93 = .ok (.getfield 311, 3) := dk_180 1 55 (dk_at dksX8_laysRow_3 21 rfl rfl)
theorem dX8_laysRow_96 : decode cX8_laysRow 96 = .ok (.if_icmp .ge 67, 3) := dk_162 0 67 (dk_at dksX8_laysRow_4 0 rfl rfl)
theorem dX8_laysRow_99 : decode cX8_laysRow 99 = .ok (.iload 5, 2) := dk_21 5 (dk_at dksX8_laysRow_4 3 rfl rfl)
theorem dX8_laysRow_101 : decode cX8_laysRow 101 = .ok (.ifCond .eq 53, 3) := dk_153 0 53 (dk_at dksX8_laysRow_4 5 rfl rfl)
theorem dX8_laysRow_104 : decode cX8_laysRow 104 = .ok (.aload_n 0, 1) := dk_42 (dk_at dksX8_laysRow_4 8 rfl rfl)
theorem dX8_laysRow_105 : decode cX8_laysRow 105 = .ok (.getfield 80, 3) := dk_180 0 80 (dk_at dksX8_laysRow_4 9 rfl rfl)
theorem dX8_laysRow_108 : decode cX8_laysRow 108 = .ok (.iload 6, 2) := dk_21 6 (dk_at dksX8_laysRow_4 12 rfl rfl)
theorem dX8_laysRow_110 : decode cX8_laysRow 110 = .ok (.iaload, 1) := dk_46 (dk_at dksX8_laysRow_4 14 rfl rfl)
theorem dX8_laysRow_111 : decode cX8_laysRow 111 = .ok (.iload_n 1, 1) := dk_27 (dk_at dksX8_laysRow_4 15 rfl rfl)
theorem dX8_laysRow_112 : decode cX8_laysRow 112 = .ok (.if_icmp .ne 38, 3) := dk_160 0 38 (dk_at dksX8_laysRow_4 16 rfl rfl)
theorem dX8_laysRow_115 : decode cX8_laysRow 115 = .ok (.aload_n 0, 1) := dk_42 (dk_at dksX8_laysRow_4 19 rfl rfl)
theorem dX8_laysRow_116 : decode cX8_laysRow 116 = .ok (.getfield 86, 3) := dk_180 0 86 (dk_at dksX8_laysRow_4 20 rfl rfl)
theorem dX8_laysRow_119 : decode cX8_laysRow 119 = .ok (.iload 6, 2) := dk_21 6 (dk_at dksX8_laysRow_5 0 rfl rfl)
theorem dX8_laysRow_121 : decode cX8_laysRow 121 = .ok (.iaload, 1) := dk_46 (dk_at dksX8_laysRow_5 2 rfl rfl)
theorem dX8_laysRow_122 : decode cX8_laysRow 122 = .ok (.aload_n 0, 1) := dk_42 (dk_at dksX8_laysRow_5 3 rfl rfl)
theorem dX8_laysRow_123 : decode cX8_laysRow 123 = .ok (.getfield 89, 3) := dk_180 0 89 (dk_at dksX8_laysRow_5 4 rfl rfl)
theorem dX8_laysRow_126 : decode cX8_laysRow 126 = .ok (.iload 6, 2) := dk_21 6 (dk_at dksX8_laysRow_5 7 rfl rfl)
theorem dX8_laysRow_128 : decode cX8_laysRow 128 = .ok (.iaload, 1) := dk_46 (dk_at dksX8_laysRow_5 9 rfl rfl)
theorem dX8_laysRow_129 : decode cX8_laysRow 129 = .ok (.aload_n 0, 1) := dk_42 (dk_at dksX8_laysRow_5 10 rfl rfl)
theorem dX8_laysRow_130 : decode cX8_laysRow 130 = .ok (.getfield 162, 3) := dk_180 0 162 (dk_at dksX8_laysRow_5 11 rfl rfl)
theorem dX8_laysRow_133 : decode cX8_laysRow 133 = .ok (.iload 4, 2) := dk_21 4 (dk_at dksX8_laysRow_5 14 rfl rfl)
theorem dX8_laysRow_135 : decode cX8_laysRow 135 = .ok (.aload_n 0, 1) := dk_42 (dk_at dksX8_laysRow_5 16 rfl rfl)
theorem dX8_laysRow_136 : decode cX8_laysRow 136 = .ok (.getfield 83, 3) := dk_180 0 83 (dk_at dksX8_laysRow_5 17 rfl rfl)
theorem dX8_laysRow_139 : decode cX8_laysRow 139 = .ok (.iload 6, 2) := dk_21 6 (dk_at dksX8_laysRow_5 20 rfl rfl)
theorem dX8_laysRow_141 : decode cX8_laysRow 141 = .ok (.iaload, 1) := dk_46 (dk_at dksX8_laysRow_5 22 rfl rfl)
theorem dX8_laysRow_142 : decode cX8_laysRow 142 = .ok (.iadd, 1) := dk_96 (dk_at dksX8_laysRow_5 23 rfl rfl)
theorem dX8_laysRow_143 : decode cX8_laysRow 143 = .ok (.iaload, 1) := dk_46 (dk_at dksX8_laysRow_6 0 rfl rfl)
theorem dX8_laysRow_144 : decode cX8_laysRow 144 = .ok (.invokestatic 327, 3) := dk_184 1 71 (dk_at dksX8_laysRow_6 1 rfl rfl)
theorem dX8_laysRow_147 : decode cX8_laysRow 147 = .ok (.ifCond .eq 7, 3) := dk_153 0 7 (dk_at dksX8_laysRow_6 4 rfl rfl)
theorem dX8_laysRow_150 : decode cX8_laysRow 150 = .ok (.iconst 1, 1) := dk_4 (dk_at dksX8_laysRow_6 7 rfl rfl)
theorem dX8_laysRow_151 : decode cX8_laysRow 151 = .ok (.goto 4, 3) := dk_167 0 4 (dk_at dksX8_laysRow_6 8 rfl rfl)
theorem dX8_laysRow_154 : decode cX8_laysRow 154 = .ok (.iconst 0, 1) := dk_3 (dk_at dksX8_laysRow_6 11 rfl rfl)
theorem dX8_laysRow_155 : decode cX8_laysRow 155 = .ok (.istore 5, 2) := dk_54 5 (dk_at dksX8_laysRow_6 12 rfl rfl)
theorem dX8_laysRow_157 : decode cX8_laysRow 157 = .ok (.iinc 6 1, 3) := dk_132 6 1 (dk_at dksX8_laysRow_6 14 rfl rfl)
theorem dX8_laysRow_160 : decode cX8_laysRow 160 = .ok (.goto (-70), 3) := dk_167 255 186 (dk_at dksX8_laysRow_6 17 rfl rfl)
theorem dX8_laysRow_163 : decode cX8_laysRow 163 = .ok (.aload_n 0, 1) := dk_42 (dk_at dksX8_laysRow_6 20 rfl rfl)
theorem dX8_laysRow_164 : decode cX8_laysRow 164 = .ok (.getfield 159, 3) := dk_180 0 159 (dk_at dksX8_laysRow_6 21 rfl rfl)
theorem dX8_laysRow_167 : decode cX8_laysRow 167 = .ok (.iload_n 1, 1) := dk_27 (dk_at dksX8_laysRow_7 0 rfl rfl)
theorem dX8_laysRow_168 : decode cX8_laysRow 168 = .ok (.dup2, 1) := dk_92 (dk_at dksX8_laysRow_7 1 rfl rfl)
theorem dX8_laysRow_169 : decode cX8_laysRow 169 = .ok (.iaload, 1) := dk_46 (dk_at dksX8_laysRow_7 2 rfl rfl)
theorem dX8_laysRow_170 : decode cX8_laysRow 170 = .ok (.iload 5, 2) := dk_21 5 (dk_at dksX8_laysRow_7 3 rfl rfl)
theorem dX8_laysRow_172 : decode cX8_laysRow 172 = .ok (.ifCond .eq 7, 3) := dk_153 0 7 (dk_at dksX8_laysRow_7 5 rfl rfl)
theorem dX8_laysRow_175 : decode cX8_laysRow 175 = .ok (.iconst 1, 1) := dk_4 (dk_at dksX8_laysRow_7 8 rfl rfl)
theorem dX8_laysRow_176 : decode cX8_laysRow 176 = .ok (.goto 4, 3) := dk_167 0 4 (dk_at dksX8_laysRow_7 9 rfl rfl)
theorem dX8_laysRow_179 : decode cX8_laysRow 179 = .ok (.iconst 0, 1) := dk_3 (dk_at dksX8_laysRow_7 12 rfl rfl)
theorem dX8_laysRow_180 : decode cX8_laysRow 180 = .ok (.iadd, 1) := dk_96 (dk_at dksX8_laysRow_7 13 rfl rfl)
theorem dX8_laysRow_181 : decode cX8_laysRow 181 = .ok (.iastore, 1) := dk_79 (dk_at dksX8_laysRow_7 14 rfl rfl)
theorem dX8_laysRow_182 : decode cX8_laysRow 182 = .ok (.return_, 1) := dk_177 (dk_at dksX8_laysRow_7 15 rfl rfl)
abbrev cX8_areLinked : ByteArray := prog_20_method_72_code
def yX8_areLinked : MethodName := ⟨RX8, "areLinked", "()Z"⟩
def dkwX8_areLinked_3 : List UInt8 := [27, 172]
abbrev dktX8_areLinked_3 : List UInt8 := dkwX8_areLinked_3 ++ []
def dkwX8_areLinked_2 : List UInt8 := [42, 180, 0, 77, 28, 46, 182, 1, 170, 160, 0, 7, 4, 167, 0, 4, 3, 60, 132, 2, 1, 167, 255, 191]
abbrev dktX8_areLinked_2 : List UInt8 := dkwX8_areLinked_2 ++ dktX8_areLinked_3
def dkwX8_areLinked_1 : List UInt8 := [46, 182, 1, 170, 62, 27, 153, 0, 34, 29, 184, 0, 228, 153, 0, 27, 29, 42, 42, 180, 0, 74, 28, 46]
abbrev dktX8_areLinked_1 : List UInt8 := dkwX8_areLinked_1 ++ dktX8_areLinked_2
def dkwX8_areLinked_0 : List UInt8 := [4, 60, 3, 61, 28, 42, 180, 1, 52, 162, 0, 63, 42, 42, 180, 0, 68, 28, 46, 42, 180, 0, 71, 28]
abbrev dktX8_areLinked_0 : List UInt8 := dkwX8_areLinked_0 ++ dktX8_areLinked_1
theorem dksX8_areLinked_0 : cX8_areLinked.data.toList.drop 0 = dktX8_areLinked_0 := by decide +kernel
theorem dksX8_areLinked_1 : cX8_areLinked.data.toList.drop 24 = dktX8_areLinked_1 := dk_seg dksX8_areLinked_0 24 rfl rfl
theorem dksX8_areLinked_2 : cX8_areLinked.data.toList.drop 48 = dktX8_areLinked_2 := dk_seg dksX8_areLinked_1 24 rfl rfl
theorem dksX8_areLinked_3 : cX8_areLinked.data.toList.drop 72 = dktX8_areLinked_3 := dk_seg dksX8_areLinked_2 24 rfl rfl
theorem dX8_areLinked_0 : decode cX8_areLinked 0 = .ok (.iconst 1, 1) := dk_4 (dk_at dksX8_areLinked_0 0 rfl rfl)
theorem dX8_areLinked_1 : decode cX8_areLinked 1 = .ok (.istore_n 1, 1) := dk_60 (dk_at dksX8_areLinked_0 1 rfl rfl)
theorem dX8_areLinked_2 : decode cX8_areLinked 2 = .ok (.iconst 0, 1) := dk_3 (dk_at dksX8_areLinked_0 2 rfl rfl)
theorem dX8_areLinked_3 : decode cX8_areLinked 3 = .ok (.istore_n 2, 1) := dk_61 (dk_at dksX8_areLinked_0 3 rfl rfl)
theorem dX8_areLinked_4 : decode cX8_areLinked 4 = .ok (.iload_n 2, 1) := dk_28 (dk_at dksX8_areLinked_0 4 rfl rfl)
theorem dX8_areLinked_5 : decode cX8_areLinked 5 = .ok (.aload_n 0, 1) := dk_42 (dk_at dksX8_areLinked_0 5 rfl rfl)
theorem dX8_areLinked_6 : decode cX8_areLinked 6 = .ok (.getfield 308, 3) := dk_180 1 52 (dk_at dksX8_areLinked_0 6 rfl rfl)
theorem dX8_areLinked_9 : decode cX8_areLinked 9 = .ok (.if_icmp .ge 63, 3) := dk_162 0 63 (dk_at dksX8_areLinked_0 9 rfl rfl)
theorem dX8_areLinked_12 : decode cX8_areLinked 12 = .ok (.aload_n 0, 1) := dk_42 (dk_at dksX8_areLinked_0 12 rfl rfl)
theorem dX8_areLinked_13 : decode cX8_areLinked 13 = .ok (.aload_n 0, 1) := dk_42 (dk_at dksX8_areLinked_0 13 rfl rfl)
theorem dX8_areLinked_14 : decode cX8_areLinked 14 = .ok (.getfield 68, 3) := dk_180 0 68 (dk_at dksX8_areLinked_0 14 rfl rfl)
theorem dX8_areLinked_17 : decode cX8_areLinked 17 = .ok (.iload_n 2, 1) := dk_28 (dk_at dksX8_areLinked_0 17 rfl rfl)
theorem dX8_areLinked_18 : decode cX8_areLinked 18 = .ok (.iaload, 1) := dk_46 (dk_at dksX8_areLinked_0 18 rfl rfl)
theorem dX8_areLinked_19 : decode cX8_areLinked 19 = .ok (.aload_n 0, 1) := dk_42 (dk_at dksX8_areLinked_0 19 rfl rfl)
theorem dX8_areLinked_20 : decode cX8_areLinked 20 = .ok (.getfield 71, 3) := dk_180 0 71 (dk_at dksX8_areLinked_0 20 rfl rfl)
theorem dX8_areLinked_23 : decode cX8_areLinked 23 = .ok (.iload_n 2, 1) := dk_28 (dk_at dksX8_areLinked_0 23 rfl rfl)
theorem dX8_areLinked_24 : decode cX8_areLinked 24 = .ok (.iaload, 1) := dk_46 (dk_at dksX8_areLinked_1 0 rfl rfl)
theorem dX8_areLinked_25 : decode cX8_areLinked 25 = .ok (.invokevirtual 426, 3) := dk_182 1 170 (dk_at dksX8_areLinked_1 1 rfl rfl)
theorem dX8_areLinked_28 : decode cX8_areLinked 28 = .ok (.istore_n 3, 1) := dk_62 (dk_at dksX8_areLinked_1 4 rfl rfl)
theorem dX8_areLinked_29 : decode cX8_areLinked 29 = .ok (.iload_n 1, 1) := dk_27 (dk_at dksX8_areLinked_1 5 rfl rfl)
theorem dX8_areLinked_30 : decode cX8_areLinked 30 = .ok (.ifCond .eq 34, 3) := dk_153 0 34 (dk_at dksX8_areLinked_1 6 rfl rfl)
theorem dX8_areLinked_33 : decode cX8_areLinked 33 = .ok (.iload_n 3, 1) := dk_29 (dk_at dksX8_areLinked_1 9 rfl rfl)
theorem dX8_areLinked_34 : decode cX8_areLinked 34 = .ok (.invokestatic 228, 3) := dk_184 0 228 (dk_at dksX8_areLinked_1 10 rfl rfl)
theorem dX8_areLinked_37 : decode cX8_areLinked 37 = .ok (.ifCond .eq 27, 3) := dk_153 0 27 (dk_at dksX8_areLinked_1 13 rfl rfl)
theorem dX8_areLinked_40 : decode cX8_areLinked 40 = .ok (.iload_n 3, 1) := dk_29 (dk_at dksX8_areLinked_1 16 rfl rfl)
theorem dX8_areLinked_41 : decode cX8_areLinked 41 = .ok (.aload_n 0, 1) := dk_42 (dk_at dksX8_areLinked_1 17 rfl rfl)
theorem dX8_areLinked_42 : decode cX8_areLinked 42 = .ok (.aload_n 0, 1) := dk_42 (dk_at dksX8_areLinked_1 18 rfl rfl)
theorem dX8_areLinked_43 : decode cX8_areLinked 43 = .ok (.getfield 74, 3) := dk_180 0 74 (dk_at dksX8_areLinked_1 19 rfl rfl)
theorem dX8_areLinked_46 : decode cX8_areLinked 46 = .ok (.iload_n 2, 1) := dk_28 (dk_at dksX8_areLinked_1 22 rfl rfl)
theorem dX8_areLinked_47 : decode cX8_areLinked 47 = .ok (.iaload, 1) := dk_46 (dk_at dksX8_areLinked_1 23 rfl rfl)
theorem dX8_areLinked_48 : decode cX8_areLinked 48 = .ok (.aload_n 0, 1) := dk_42 (dk_at dksX8_areLinked_2 0 rfl rfl)
theorem dX8_areLinked_49 : decode cX8_areLinked 49 = .ok (.getfield 77, 3) := dk_180 0 77 (dk_at dksX8_areLinked_2 1 rfl rfl)
theorem dX8_areLinked_52 : decode cX8_areLinked 52 = .ok (.iload_n 2, 1) := dk_28 (dk_at dksX8_areLinked_2 4 rfl rfl)
theorem dX8_areLinked_53 : decode cX8_areLinked 53 = .ok (.iaload, 1) := dk_46 (dk_at dksX8_areLinked_2 5 rfl rfl)
theorem dX8_areLinked_54 : decode cX8_areLinked 54 = .ok (.invokevirtual 426, 3) := dk_182 1 170 (dk_at dksX8_areLinked_2 6 rfl rfl)
theorem dX8_areLinked_57 : decode cX8_areLinked 57 = .ok (.if_icmp .ne 7, 3) := dk_160 0 7 (dk_at dksX8_areLinked_2 9 rfl rfl)
theorem dX8_areLinked_60 : decode cX8_areLinked 60 = .ok (.iconst 1, 1) := dk_4 (dk_at dksX8_areLinked_2 12 rfl rfl)
theorem dX8_areLinked_61 : decode cX8_areLinked 61 = .ok (.goto 4, 3) := dk_167 0 4 (dk_at dksX8_areLinked_2 13 rfl rfl)
theorem dX8_areLinked_64 : decode cX8_areLinked 64 = .ok (.iconst 0, 1) := dk_3 (dk_at dksX8_areLinked_2 16 rfl rfl)
theorem dX8_areLinked_65 : decode cX8_areLinked 65 = .ok (.istore_n 1, 1) := dk_60 (dk_at dksX8_areLinked_2 17 rfl rfl)
theorem dX8_areLinked_66 : decode cX8_areLinked 66 = .ok (.iinc 2 1, 3) := dk_132 2 1 (dk_at dksX8_areLinked_2 18 rfl rfl)
theorem dX8_areLinked_69 : decode cX8_areLinked 69 = .ok (.goto (-65), 3) := dk_167 255 191 (dk_at dksX8_areLinked_2 21 rfl rfl)
theorem dX8_areLinked_72 : decode cX8_areLinked 72 = .ok (.iload_n 1, 1) := dk_27 (dk_at dksX8_areLinked_3 0 rfl rfl)
theorem dX8_areLinked_73 : decode cX8_areLinked 73 = .ok (.ireturn, 1) := dk_172 (dk_at dksX8_areLinked_3 1 rfl rfl)
abbrev cX8_cellAt : ByteArray := prog_20_method_71_code
def yX8_cellAt : MethodName := ⟨RX8, "cellAt", "(II)I"⟩
def dkwX8_cellAt_0 : List UInt8 := [42, 180, 0, 162, 7, 16, 12, 27, 104, 42, 180, 0, 165, 27, 46, 96, 104, 28, 96, 46, 172]
abbrev dktX8_cellAt_0 : List UInt8 := dkwX8_cellAt_0 ++ []
theorem dksX8_cellAt_0 : cX8_cellAt.data.toList.drop 0 = dktX8_cellAt_0 := by decide +kernel
theorem dX8_cellAt_0 : decode cX8_cellAt 0 = .ok (.aload_n 0, 1) := dk_42 (dk_at dksX8_cellAt_0 0 rfl rfl)
theorem dX8_cellAt_1 : decode cX8_cellAt 1 = .ok (.getfield 162, 3) := dk_180 0 162 (dk_at dksX8_cellAt_0 1 rfl rfl)
theorem dX8_cellAt_4 : decode cX8_cellAt 4 = .ok (.iconst 4, 1) := dk_7 (dk_at dksX8_cellAt_0 4 rfl rfl)
theorem dX8_cellAt_5 : decode cX8_cellAt 5 = .ok (.bipush 12, 2) := dk_16 12 (dk_at dksX8_cellAt_0 5 rfl rfl)
theorem dX8_cellAt_7 : decode cX8_cellAt 7 = .ok (.iload_n 1, 1) := dk_27 (dk_at dksX8_cellAt_0 7 rfl rfl)
theorem dX8_cellAt_8 : decode cX8_cellAt 8 = .ok (.imul, 1) := dk_104 (dk_at dksX8_cellAt_0 8 rfl rfl)
theorem dX8_cellAt_9 : decode cX8_cellAt 9 = .ok (.aload_n 0, 1) := dk_42 (dk_at dksX8_cellAt_0 9 rfl rfl)
theorem dX8_cellAt_10 : decode cX8_cellAt 10 = .ok (.getfield 165, 3) := dk_180 0 165 (dk_at dksX8_cellAt_0 10 rfl rfl)
theorem dX8_cellAt_13 : decode cX8_cellAt 13 = .ok (.iload_n 1, 1) := dk_27 (dk_at dksX8_cellAt_0 13 rfl rfl)
theorem dX8_cellAt_14 : decode cX8_cellAt 14 = .ok (.iaload, 1) := dk_46 (dk_at dksX8_cellAt_0 14 rfl rfl)
theorem dX8_cellAt_15 : decode cX8_cellAt 15 = .ok (.iadd, 1) := dk_96 (dk_at dksX8_cellAt_0 15 rfl rfl)
theorem dX8_cellAt_16 : decode cX8_cellAt 16 = .ok (.imul, 1) := dk_104 (dk_at dksX8_cellAt_0 16 rfl rfl)
theorem dX8_cellAt_17 : decode cX8_cellAt 17 = .ok (.iload_n 2, 1) := dk_28 (dk_at dksX8_cellAt_0 17 rfl rfl)
theorem dX8_cellAt_18 : decode cX8_cellAt 18 = .ok (.iadd, 1) := dk_96 (dk_at dksX8_cellAt_0 18 rfl rfl)
theorem dX8_cellAt_19 : decode cX8_cellAt 19 = .ok (.iaload, 1) := dk_46 (dk_at dksX8_cellAt_0 19 rfl rfl)
theorem dX8_cellAt_20 : decode cX8_cellAt 20 = .ok (.ireturn, 1) := dk_172 (dk_at dksX8_cellAt_0 20 rfl rfl)
abbrev cX8_addsToGroup : ByteArray := prog_20_method_75_code
def yX8_addsToGroup : MethodName := ⟨RX8, "addsToGroup", "()V"⟩
def dkwX8_addsToGroup_6 : List UInt8 := [46, 28, 184, 0, 228, 153, 0, 7, 28, 167, 0, 4, 3, 96, 79, 177]
abbrev dktX8_addsToGroup_6 : List UInt8 := dkwX8_addsToGroup_6 ++ []
def dkwX8_addsToGroup_5 : List UInt8 := [180, 1, 176, 4, 96, 181, 1, 176, 42, 180, 0, 174, 29, 92, 46, 4, 96, 79, 42, 180, 0, 177, 29, 92]
abbrev dktX8_addsToGroup_5 : List UInt8 := dkwX8_addsToGroup_5 ++ dktX8_addsToGroup_6
def dkwX8_addsToGroup_4 : List UInt8 := [180, 0, 171, 29, 27, 79, 42, 180, 0, 174, 29, 3, 79, 42, 180, 0, 177, 29, 3, 79, 42, 89]
abbrev dktX8_addsToGroup_4 : List UInt8 := dkwX8_addsToGroup_4 ++ dktX8_addsToGroup_5
def dkwX8_addsToGroup_3 : List UInt8 := [167, 0, 4, 29, 62, 132, 4, 1, 167, 255, 226, 29, 2, 160, 0, 39, 42, 180, 1, 176, 62, 42]
abbrev dktX8_addsToGroup_3 : List UInt8 := dkwX8_addsToGroup_3 ++ dktX8_addsToGroup_4
def dkwX8_addsToGroup_2 : List UInt8 := [54, 4, 21, 4, 42, 180, 1, 176, 162, 0, 27, 42, 180, 0, 171, 21, 4, 46, 27, 160, 0, 8, 21, 4]
abbrev dktX8_addsToGroup_2 : List UInt8 := dkwX8_addsToGroup_2 ++ dktX8_addsToGroup_3
def dkwX8_addsToGroup_1 : List UInt8 := [180, 1, 58, 4, 100, 46, 42, 180, 0, 95, 42, 180, 1, 58, 4, 100, 46, 182, 1, 170, 61, 2, 62, 3]
abbrev dktX8_addsToGroup_1 : List UInt8 := dkwX8_addsToGroup_1 ++ dktX8_addsToGroup_2
def dkwX8_addsToGroup_0 : List UInt8 := [42, 42, 180, 0, 92, 3, 46, 42, 180, 0, 95, 3, 46, 182, 1, 170, 60, 42, 42, 180, 0, 92, 42]
abbrev dktX8_addsToGroup_0 : List UInt8 := dkwX8_addsToGroup_0 ++ dktX8_addsToGroup_1
theorem dksX8_addsToGroup_0 : cX8_addsToGroup.data.toList.drop 0 = dktX8_addsToGroup_0 := by decide +kernel
theorem dksX8_addsToGroup_1 : cX8_addsToGroup.data.toList.drop 23 = dktX8_addsToGroup_1 := dk_seg dksX8_addsToGroup_0 23 rfl rfl
theorem dksX8_addsToGroup_2 : cX8_addsToGroup.data.toList.drop 47 = dktX8_addsToGroup_2 := dk_seg dksX8_addsToGroup_1 24 rfl rfl
theorem dksX8_addsToGroup_3 : cX8_addsToGroup.data.toList.drop 71 = dktX8_addsToGroup_3 := dk_seg dksX8_addsToGroup_2 24 rfl rfl
theorem dksX8_addsToGroup_4 : cX8_addsToGroup.data.toList.drop 93 = dktX8_addsToGroup_4 := dk_seg dksX8_addsToGroup_3 22 rfl rfl
theorem dksX8_addsToGroup_5 : cX8_addsToGroup.data.toList.drop 115 = dktX8_addsToGroup_5 := dk_seg dksX8_addsToGroup_4 22 rfl rfl
theorem dksX8_addsToGroup_6 : cX8_addsToGroup.data.toList.drop 139 = dktX8_addsToGroup_6 := dk_seg dksX8_addsToGroup_5 24 rfl rfl
theorem dX8_addsToGroup_0 : decode cX8_addsToGroup 0 = .ok (.aload_n 0, 1) := dk_42 (dk_at dksX8_addsToGroup_0 0 rfl rfl)
theorem dX8_addsToGroup_1 : decode cX8_addsToGroup 1 = .ok (.aload_n 0, 1) := dk_42 (dk_at dksX8_addsToGroup_0 1 rfl rfl)
theorem dX8_addsToGroup_2 : decode cX8_addsToGroup 2 = .ok (.getfield 92, 3) := dk_180 0 92 (dk_at dksX8_addsToGroup_0 2 rfl rfl)
theorem dX8_addsToGroup_5 : decode cX8_addsToGroup 5 = .ok (.iconst 0, 1) := dk_3 (dk_at dksX8_addsToGroup_0 5 rfl rfl)
theorem dX8_addsToGroup_6 : decode cX8_addsToGroup 6 = .ok (.iaload, 1) := dk_46 (dk_at dksX8_addsToGroup_0 6 rfl rfl)
theorem dX8_addsToGroup_7 : decode cX8_addsToGroup 7 = .ok (.aload_n 0, 1) := dk_42 (dk_at dksX8_addsToGroup_0 7 rfl rfl)
theorem dX8_addsToGroup_8 : decode cX8_addsToGroup 8 = .ok (.getfield 95, 3) := dk_180 0 95 (dk_at dksX8_addsToGroup_0 8 rfl rfl)
theorem dX8_addsToGroup_11 : decode cX8_addsToGroup 11 = .ok (.iconst 0, 1) := dk_3 (dk_at dksX8_addsToGroup_0 11 rfl rfl)
theorem dX8_addsToGroup_12 : decode cX8_addsToGroup 12 = .ok (.iaload, 1) := dk_46 (dk_at dksX8_addsToGroup_0 12 rfl rfl)
theorem dX8_addsToGroup_13 : decode cX8_addsToGroup 13 = .ok (.invokevirtual 426, 3) := dk_182 1 170 (dk_at dksX8_addsToGroup_0 13 rfl rfl)
theorem dX8_addsToGroup_16 : decode cX8_addsToGroup 16 = .ok (.istore_n 1, 1) := dk_60 (dk_at dksX8_addsToGroup_0 16 rfl rfl)
theorem dX8_addsToGroup_17 : decode cX8_addsToGroup 17 = .ok (.aload_n 0, 1) := dk_42 (dk_at dksX8_addsToGroup_0 17 rfl rfl)
theorem dX8_addsToGroup_18 : decode cX8_addsToGroup 18 = .ok (.aload_n 0, 1) := dk_42 (dk_at dksX8_addsToGroup_0 18 rfl rfl)
theorem dX8_addsToGroup_19 : decode cX8_addsToGroup 19 = .ok (.getfield 92, 3) := dk_180 0 92 (dk_at dksX8_addsToGroup_0 19 rfl rfl)
theorem dX8_addsToGroup_22 : decode cX8_addsToGroup 22 = .ok (.aload_n 0, 1) := dk_42 (dk_at dksX8_addsToGroup_0 22 rfl rfl)
theorem dX8_addsToGroup_23 : decode cX8_addsToGroup 23 = .ok (.getfield 314, 3) := dk_180 1 58 (dk_at dksX8_addsToGroup_1 0 rfl rfl)
theorem dX8_addsToGroup_26 : decode cX8_addsToGroup 26 = .ok (.iconst 1, 1) := dk_4 (dk_at dksX8_addsToGroup_1 3 rfl rfl)
theorem dX8_addsToGroup_27 : decode cX8_addsToGroup 27 = .ok (.isub, 1) := dk_100 (dk_at dksX8_addsToGroup_1 4 rfl rfl)
theorem dX8_addsToGroup_28 : decode cX8_addsToGroup 28 = .ok (.iaload, 1) := dk_46 (dk_at dksX8_addsToGroup_1 5 rfl rfl)
theorem dX8_addsToGroup_29 : decode cX8_addsToGroup 29 = .ok (.aload_n 0, 1) := dk_42 (dk_at dksX8_addsToGroup_1 6 rfl rfl)
theorem dX8_addsToGroup_30 : decode cX8_addsToGroup 30 = .ok (.getfield 95, 3) := dk_180 0 95 (dk_at dksX8_addsToGroup_1 7 rfl rfl)
theorem dX8_addsToGroup_33 : decode cX8_addsToGroup 33 = .ok (.aload_n 0, 1) := dk_42 (dk_at dksX8_addsToGroup_1 10 rfl rfl)
theorem dX8_addsToGroup_34 : decode cX8_addsToGroup 34 = .ok (.getfield 314, 3) := dk_180 1 58 (dk_at dksX8_addsToGroup_1 11 rfl rfl)
theorem dX8_addsToGroup_37 : decode cX8_addsToGroup 37 = .ok (.iconst 1, 1) := dk_4 (dk_at dksX8_addsToGroup_1 14 rfl rfl)
theorem dX8_addsToGroup_38 : decode cX8_addsToGroup 38 = .ok (.isub, 1) := dk_100 (dk_at dksX8_addsToGroup_1 15 rfl rfl)
theorem dX8_addsToGroup_39 : decode cX8_addsToGroup 39 = .ok (.iaload, 1) := dk_46 (dk_at dksX8_addsToGroup_1 16 rfl rfl)
theorem dX8_addsToGroup_40 : decode cX8_addsToGroup 40 = .ok (.invokevirtual 426, 3) := dk_182 1 170 (dk_at dksX8_addsToGroup_1 17 rfl rfl)
theorem dX8_addsToGroup_43 : decode cX8_addsToGroup 43 = .ok (.istore_n 2, 1) := dk_61 (dk_at dksX8_addsToGroup_1 20 rfl rfl)
theorem dX8_addsToGroup_44 : decode cX8_addsToGroup 44 = .ok (.iconst (-1), 1) := dk_2 (dk_at dksX8_addsToGroup_1 21 rfl rfl)
theorem dX8_addsToGroup_45 : decode cX8_addsToGroup 45 = .ok (.istore_n 3, 1) := dk_62 (dk_at dksX8_addsToGroup_1 22 rfl rfl)
theorem dX8_addsToGroup_46 : decode cX8_addsToGroup 46 = .ok (.iconst 0, 1) := dk_3 (dk_at dksX8_addsToGroup_1 23 rfl rfl)
theorem dX8_addsToGroup_47 : decode cX8_addsToGroup 47 = .ok (.istore 4, 2) := dk_54 4 (dk_at dksX8_addsToGroup_2 0 rfl rfl)
theorem dX8_addsToGroup_49 : decode cX8_addsToGroup 49 = .ok (.iload 4, 2) := dk_21 4 (dk_at dksX8_addsToGroup_2 2 rfl rfl)
theorem dX8_addsToGroup_51 : decode cX8_addsToGroup 51 = .ok (.aload_n 0, 1) := dk_42 (dk_at dksX8_addsToGroup_2 4 rfl rfl)
theorem dX8_addsToGroup_52 : decode cX8_addsToGroup 52 = .ok (.getfield 432, 3) := dk_180 1 176 (dk_at dksX8_addsToGroup_2 5 rfl rfl)
theorem dX8_addsToGroup_55 : decode cX8_addsToGroup 55 = .ok (.if_icmp .ge 27, 3) := dk_162 0 27 (dk_at dksX8_addsToGroup_2 8 rfl rfl)
theorem dX8_addsToGroup_58 : decode cX8_addsToGroup 58 = .ok (.aload_n 0, 1) := dk_42 (dk_at dksX8_addsToGroup_2 11 rfl rfl)
theorem dX8_addsToGroup_59 : decode cX8_addsToGroup 59 = .ok (.getfield 171, 3) := dk_180 0 171 (dk_at dksX8_addsToGroup_2 12 rfl rfl)
theorem dX8_addsToGroup_62 : decode cX8_addsToGroup 62 = .ok (.iload 4, 2) := dk_21 4 (dk_at dksX8_addsToGroup_2 15 rfl rfl)
theorem dX8_addsToGroup_64 : decode cX8_addsToGroup 64 = .ok (.iaload, 1) := dk_46 (dk_at dksX8_addsToGroup_2 17 rfl rfl)
theorem dX8_addsToGroup_65 : decode cX8_addsToGroup 65 = .ok (.iload_n 1, 1) := dk_27 (dk_at dksX8_addsToGroup_2 18 rfl rfl)
theorem dX8_addsToGroup_66 : decode cX8_addsToGroup 66 = .ok (.if_icmp .ne 8, 3) := dk_160 0 8 (dk_at dksX8_addsToGroup_2 19 rfl rfl)
theorem dX8_addsToGroup_69 : decode cX8_addsToGroup 69 = .ok (.iload 4, 2) := dk_21 4 (dk_at dksX8_addsToGroup_2 22 rfl rfl)
theorem dX8_addsToGroup_71 : decode cX8_addsToGroup 71 = .ok (.goto 4, 3) := dk_167 0 4 (dk_at dksX8_addsToGroup_3 0 rfl rfl)
theorem dX8_addsToGroup_74 : decode cX8_addsToGroup 74 = .ok (.iload_n 3, 1) := dk_29 (dk_at dksX8_addsToGroup_3 3 rfl rfl)
theorem dX8_addsToGroup_75 : decode cX8_addsToGroup 75 = .ok (.istore_n 3, 1) := dk_62 (dk_at dksX8_addsToGroup_3 4 rfl rfl)
theorem dX8_addsToGroup_76 : decode cX8_addsToGroup 76 = .ok (.iinc 4 1, 3) := dk_132 4 1 (dk_at dksX8_addsToGroup_3 5 rfl rfl)
theorem dX8_addsToGroup_79 : decode cX8_addsToGroup 79 = .ok (.goto (-30), 3) := dk_167 255 226 (dk_at dksX8_addsToGroup_3 8 rfl rfl)
theorem dX8_addsToGroup_82 : decode cX8_addsToGroup 82 = .ok (.iload_n 3, 1) := dk_29 (dk_at dksX8_addsToGroup_3 11 rfl rfl)
theorem dX8_addsToGroup_83 : decode cX8_addsToGroup 83 = .ok (.iconst (-1), 1) := dk_2 (dk_at dksX8_addsToGroup_3 12 rfl rfl)
theorem dX8_addsToGroup_84 : decode cX8_addsToGroup 84 = .ok (.if_icmp .ne 39, 3) := dk_160 0 39 (dk_at dksX8_addsToGroup_3 13 rfl rfl)
theorem dX8_addsToGroup_87 : decode cX8_addsToGroup 87 = .ok (.aload_n 0, 1) := dk_42 (dk_at dksX8_addsToGroup_3 16 rfl rfl)
theorem dX8_addsToGroup_88 : decode cX8_addsToGroup 88 = .ok (.getfield 432, 3) := dk_180 1 176 (dk_at dksX8_addsToGroup_3 17 rfl rfl)
theorem dX8_addsToGroup_91 : decode cX8_addsToGroup 91 = .ok (.istore_n 3, 1) := dk_62 (dk_at dksX8_addsToGroup_3 20 rfl rfl)
theorem dX8_addsToGroup_92 : decode cX8_addsToGroup 92 = .ok (.aload_n 0, 1) := dk_42 (dk_at dksX8_addsToGroup_3 21 rfl rfl)
theorem dX8_addsToGroup_93 : decode cX8_addsToGroup 93 = .ok (.getfield 171, 3) := dk_180 0 171 (dk_at dksX8_addsToGroup_4 0 rfl rfl)
theorem dX8_addsToGroup_96 : decode cX8_addsToGroup 96 = .ok (.iload_n 3, 1) := dk_29 (dk_at dksX8_addsToGroup_4 3 rfl rfl)
theorem dX8_addsToGroup_97 : decode cX8_addsToGroup 97 = .ok (.iload_n 1, 1) := dk_27 (dk_at dksX8_addsToGroup_4 4 rfl rfl)
theorem dX8_addsToGroup_98 : decode cX8_addsToGroup 98 = .ok (.iastore, 1) := dk_79 (dk_at dksX8_addsToGroup_4 5 rfl rfl)
theorem dX8_addsToGroup_99 : decode cX8_addsToGroup 99 = .ok (.aload_n 0, 1) := dk_42 (dk_at dksX8_addsToGroup_4 6 rfl rfl)
theorem dX8_addsToGroup_100 : decode cX8_addsToGroup 100 = .ok (.getfield 174, 3) := dk_180 0 174 (dk_at dksX8_addsToGroup_4 7 rfl rfl)
theorem dX8_addsToGroup_103 : decode cX8_addsToGroup 103 = .ok (.iload_n 3, 1) := dk_29 (dk_at dksX8_addsToGroup_4 10 rfl rfl)
theorem dX8_addsToGroup_104 : decode cX8_addsToGroup 104 = .ok (.iconst 0, 1) := dk_3 (dk_at dksX8_addsToGroup_4 11 rfl rfl)
theorem dX8_addsToGroup_105 : decode cX8_addsToGroup 105 = .ok (.iastore, 1) := dk_79 (dk_at dksX8_addsToGroup_4 12 rfl rfl)
theorem dX8_addsToGroup_106 : decode cX8_addsToGroup 106 = .ok (.aload_n 0, 1) := dk_42 (dk_at dksX8_addsToGroup_4 13 rfl rfl)
theorem dX8_addsToGroup_107 : decode cX8_addsToGroup 107 = .ok (.getfield 177, 3) := dk_180 0 177 (dk_at dksX8_addsToGroup_4 14 rfl rfl)
theorem dX8_addsToGroup_110 : decode cX8_addsToGroup 110 = .ok (.iload_n 3, 1) := dk_29 (dk_at dksX8_addsToGroup_4 17 rfl rfl)
theorem dX8_addsToGroup_111 : decode cX8_addsToGroup 111 = .ok (.iconst 0, 1) := dk_3 (dk_at dksX8_addsToGroup_4 18 rfl rfl)
theorem dX8_addsToGroup_112 : decode cX8_addsToGroup 112 = .ok (.iastore, 1) := dk_79 (dk_at dksX8_addsToGroup_4 19 rfl rfl)
theorem dX8_addsToGroup_113 : decode cX8_addsToGroup 113 = .ok (.aload_n 0, 1) := dk_42 (dk_at dksX8_addsToGroup_4 20 rfl rfl)
theorem dX8_addsToGroup_114 : decode cX8_addsToGroup 114 = .ok (.dup, 1) := dk_89 (dk_at dksX8_addsToGroup_4 21 rfl rfl)
theorem dX8_addsToGroup_115 : decode cX8_addsToGroup 115 = .ok (.getfield 432, 3) := dk_180 1 176 (dk_at dksX8_addsToGroup_5 0 rfl rfl)
theorem dX8_addsToGroup_118 : decode cX8_addsToGroup 118 = .ok (.iconst 1, 1) := dk_4 (dk_at dksX8_addsToGroup_5 3 rfl rfl)
theorem dX8_addsToGroup_119 : decode cX8_addsToGroup 119 = .ok (.iadd, 1) := dk_96 (dk_at dksX8_addsToGroup_5 4 rfl rfl)
theorem dX8_addsToGroup_120 : decode cX8_addsToGroup 120 = .ok (.putfield 432, 3) := dk_181 1 176 (dk_at dksX8_addsToGroup_5 5 rfl rfl)
theorem dX8_addsToGroup_123 : decode cX8_addsToGroup 123 = .ok (.aload_n 0, 1) := dk_42 (dk_at dksX8_addsToGroup_5 8 rfl rfl)
theorem dX8_addsToGroup_124 : decode cX8_addsToGroup 124 = .ok (.getfield 174, 3) := dk_180 0 174 (dk_at dksX8_addsToGroup_5 9 rfl rfl)
theorem dX8_addsToGroup_127 : decode cX8_addsToGroup 127 = .ok (.iload_n 3, 1) := dk_29 (dk_at dksX8_addsToGroup_5 12 rfl rfl)
theorem dX8_addsToGroup_128 : decode cX8_addsToGroup 128 = .ok (.dup2, 1) := dk_92 (dk_at dksX8_addsToGroup_5 13 rfl rfl)
theorem dX8_addsToGroup_129 : decode cX8_addsToGroup 129 = .ok (.iaload, 1) := dk_46 (dk_at dksX8_addsToGroup_5 14 rfl rfl)
theorem dX8_addsToGroup_130 : decode cX8_addsToGroup 130 = .ok (.iconst 1, 1) := dk_4 (dk_at dksX8_addsToGroup_5 15 rfl rfl)
theorem dX8_addsToGroup_131 : decode cX8_addsToGroup 131 = .ok (.iadd, 1) := dk_96 (dk_at dksX8_addsToGroup_5 16 rfl rfl)
theorem dX8_addsToGroup_132 : decode cX8_addsToGroup 132 = .ok (.iastore, 1) := dk_79 (dk_at dksX8_addsToGroup_5 17 rfl rfl)
theorem dX8_addsToGroup_133 : decode cX8_addsToGroup 133 = .ok (.aload_n 0, 1) := dk_42 (dk_at dksX8_addsToGroup_5 18 rfl rfl)
theorem dX8_addsToGroup_134 : decode cX8_addsToGroup 134 = .ok (.getfield 177, 3) := dk_180 0 177 (dk_at dksX8_addsToGroup_5 19 rfl rfl)
theorem dX8_addsToGroup_137 : decode cX8_addsToGroup 137 = .ok (.iload_n 3, 1) := dk_29 (dk_at dksX8_addsToGroup_5 22 rfl rfl)
theorem dX8_addsToGroup_138 : decode cX8_addsToGroup 138 = .ok (.dup2, 1) := dk_92 (dk_at dksX8_addsToGroup_5 23 rfl rfl)
theorem dX8_addsToGroup_139 : decode cX8_addsToGroup 139 = .ok (.iaload, 1) := dk_46 (dk_at dksX8_addsToGroup_6 0 rfl rfl)
theorem dX8_addsToGroup_140 : decode cX8_addsToGroup 140 = .ok (.iload_n 2, 1) := dk_28 (dk_at dksX8_addsToGroup_6 1 rfl rfl)
theorem dX8_addsToGroup_141 : decode cX8_addsToGroup 141 = .ok (.invokestatic 228, 3) := dk_184 0 228 (dk_at dksX8_addsToGroup_6 2 rfl rfl)
theorem dX8_addsToGroup_144 : decode cX8_addsToGroup 144 = .ok (.ifCond .eq 7, 3) := dk_153 0 7 (dk_at dksX8_addsToGroup_6 5 rfl rfl)
theorem dX8_addsToGroup_147 : decode cX8_addsToGroup 147 = .ok (.iload_n 2, 1) := dk_28 (dk_at dksX8_addsToGroup_6 8 rfl rfl)
theorem dX8_addsToGroup_148 : decode cX8_addsToGroup 148 = .ok (.goto 4, 3) := dk_167 0 4 (dk_at dksX8_addsToGroup_6 9 rfl rfl)
theorem dX8_addsToGroup_151 : decode cX8_addsToGroup 151 = .ok (.iconst 0, 1) := dk_3 (dk_at dksX8_addsToGroup_6 12 rfl rfl)
theorem dX8_addsToGroup_152 : decode cX8_addsToGroup 152 = .ok (.iadd, 1) := dk_96 (dk_at dksX8_addsToGroup_6 13 rfl rfl)
theorem dX8_addsToGroup_153 : decode cX8_addsToGroup 153 = .ok (.iastore, 1) := dk_79 (dk_at dksX8_addsToGroup_6 14 rfl rfl)
theorem dX8_addsToGroup_154 : decode cX8_addsToGroup 154 = .ok (.return_, 1) := dk_177 (dk_at dksX8_addsToGroup_6 15 rfl rfl)
abbrev cX8_addsMatch : ByteArray := prog_20_method_74_code
def yX8_addsMatch : MethodName := ⟨RX8, "addsMatch", "()V"⟩
def dkwX8_addsMatch_3 : List UInt8 := [162, 0, 7, 4, 167, 0, 4, 3, 96, 181, 1, 173, 177]
abbrev dktX8_addsMatch_3 : List UInt8 := dkwX8_addsMatch_3 ++ []
def dkwX8_addsMatch_2 : List UInt8 := [182, 1, 170, 79, 132, 1, 1, 167, 255, 205, 42, 89, 180, 1, 173, 42, 180, 1, 173, 42, 180, 0, 98]
abbrev dktX8_addsMatch_2 : List UInt8 := dkwX8_addsMatch_2 ++ dktX8_addsMatch_3
def dkwX8_addsMatch_1 : List UInt8 := [180, 0, 168, 6, 42, 180, 1, 173, 104, 27, 96, 42, 42, 180, 0, 92, 27, 46, 42, 180, 0, 95, 27, 46]
abbrev dktX8_addsMatch_1 : List UInt8 := dkwX8_addsMatch_1 ++ dktX8_addsMatch_2
def dkwX8_addsMatch_0 : List UInt8 := [3, 60, 27, 42, 180, 1, 58, 162, 0, 49, 42, 180, 1, 173, 42, 180, 0, 98, 162, 0, 38, 42]
abbrev dktX8_addsMatch_0 : List UInt8 := dkwX8_addsMatch_0 ++ dktX8_addsMatch_1
theorem dksX8_addsMatch_0 : cX8_addsMatch.data.toList.drop 0 = dktX8_addsMatch_0 := by decide +kernel
theorem dksX8_addsMatch_1 : cX8_addsMatch.data.toList.drop 22 = dktX8_addsMatch_1 := dk_seg dksX8_addsMatch_0 22 rfl rfl
theorem dksX8_addsMatch_2 : cX8_addsMatch.data.toList.drop 46 = dktX8_addsMatch_2 := dk_seg dksX8_addsMatch_1 24 rfl rfl
theorem dksX8_addsMatch_3 : cX8_addsMatch.data.toList.drop 69 = dktX8_addsMatch_3 := dk_seg dksX8_addsMatch_2 23 rfl rfl
theorem dX8_addsMatch_0 : decode cX8_addsMatch 0 = .ok (.iconst 0, 1) := dk_3 (dk_at dksX8_addsMatch_0 0 rfl rfl)
theorem dX8_addsMatch_1 : decode cX8_addsMatch 1 = .ok (.istore_n 1, 1) := dk_60 (dk_at dksX8_addsMatch_0 1 rfl rfl)
theorem dX8_addsMatch_2 : decode cX8_addsMatch 2 = .ok (.iload_n 1, 1) := dk_27 (dk_at dksX8_addsMatch_0 2 rfl rfl)
theorem dX8_addsMatch_3 : decode cX8_addsMatch 3 = .ok (.aload_n 0, 1) := dk_42 (dk_at dksX8_addsMatch_0 3 rfl rfl)
theorem dX8_addsMatch_4 : decode cX8_addsMatch 4 = .ok (.getfield 314, 3) := dk_180 1 58 (dk_at dksX8_addsMatch_0 4 rfl rfl)
theorem dX8_addsMatch_7 : decode cX8_addsMatch 7 = .ok (.if_icmp .ge 49, 3) := dk_162 0 49 (dk_at dksX8_addsMatch_0 7 rfl rfl)
theorem dX8_addsMatch_10 : decode cX8_addsMatch 10 = .ok (.aload_n 0, 1) := dk_42 (dk_at dksX8_addsMatch_0 10 rfl rfl)
theorem dX8_addsMatch_11 : decode cX8_addsMatch 11 = .ok (.getfield 429, 3) := dk_180 1 173 (dk_at dksX8_addsMatch_0 11 rfl rfl)
theorem dX8_addsMatch_14 : decode cX8_addsMatch 14 = .ok (.aload_n 0, 1) := dk_42 (dk_at dksX8_addsMatch_0 14 rfl rfl)
theorem dX8_addsMatch_15 : decode cX8_addsMatch 15 = .ok (.getfield 98, 3) := dk_180 0 98 (dk_at dksX8_addsMatch_0 15 rfl rfl)
theorem dX8_addsMatch_18 : decode cX8_addsMatch 18 = .ok (.if_icmp .ge 38, 3) := dk_162 0 38 (dk_at dksX8_addsMatch_0 18 rfl rfl)
theorem dX8_addsMatch_21 : decode cX8_addsMatch 21 = .ok (.aload_n 0, 1) := dk_42 (dk_at dksX8_addsMatch_0 21 rfl rfl)
theorem dX8_addsMatch_22 : decode cX8_addsMatch 22 = .ok (.getfield 168, 3) := dk_180 0 168 (dk_at dksX8_addsMatch_1 0 rfl rfl)
theorem dX8_addsMatch_25 : decode cX8_addsMatch 25 = .ok (.iconst 3, 1) := dk_6 (dk_at dksX8_addsMatch_1 3 rfl rfl)
theorem dX8_addsMatch_26 : decode cX8_addsMatch 26 = .ok (.aload_n 0, 1) := dk_42 (dk_at dksX8_addsMatch_1 4 rfl rfl)
theorem dX8_addsMatch_27 : decode cX8_addsMatch 27 = .ok (.getfield 429, 3) := dk_180 1 173 (dk_at dksX8_addsMatch_1 5 rfl rfl)
theorem dX8_addsMatch_30 : decode cX8_addsMatch 30 = .ok (.imul, 1) := dk_104 (dk_at dksX8_addsMatch_1 8 rfl rfl)
theorem dX8_addsMatch_31 : decode cX8_addsMatch 31 = .ok (.iload_n 1, 1) := dk_27 (dk_at dksX8_addsMatch_1 9 rfl rfl)
theorem dX8_addsMatch_32 : decode cX8_addsMatch 32 = .ok (.iadd, 1) := dk_96 (dk_at dksX8_addsMatch_1 10 rfl rfl)
theorem dX8_addsMatch_33 : decode cX8_addsMatch 33 = .ok (.aload_n 0, 1) := dk_42 (dk_at dksX8_addsMatch_1 11 rfl rfl)
theorem dX8_addsMatch_34 : decode cX8_addsMatch 34 = .ok (.aload_n 0, 1) := dk_42 (dk_at dksX8_addsMatch_1 12 rfl rfl)
theorem dX8_addsMatch_35 : decode cX8_addsMatch 35 = .ok (.getfield 92, 3) := dk_180 0 92 (dk_at dksX8_addsMatch_1 13 rfl rfl)
theorem dX8_addsMatch_38 : decode cX8_addsMatch 38 = .ok (.iload_n 1, 1) := dk_27 (dk_at dksX8_addsMatch_1 16 rfl rfl)
theorem dX8_addsMatch_39 : decode cX8_addsMatch 39 = .ok (.iaload, 1) := dk_46 (dk_at dksX8_addsMatch_1 17 rfl rfl)
theorem dX8_addsMatch_40 : decode cX8_addsMatch 40 = .ok (.aload_n 0, 1) := dk_42 (dk_at dksX8_addsMatch_1 18 rfl rfl)
theorem dX8_addsMatch_41 : decode cX8_addsMatch 41 = .ok (.getfield 95, 3) := dk_180 0 95 (dk_at dksX8_addsMatch_1 19 rfl rfl)
theorem dX8_addsMatch_44 : decode cX8_addsMatch 44 = .ok (.iload_n 1, 1) := dk_27 (dk_at dksX8_addsMatch_1 22 rfl rfl)
theorem dX8_addsMatch_45 : decode cX8_addsMatch 45 = .ok (.iaload, 1) := dk_46 (dk_at dksX8_addsMatch_1 23 rfl rfl)
theorem dX8_addsMatch_46 : decode cX8_addsMatch 46 = .ok (.invokevirtual 426, 3) := dk_182 1 170 (dk_at dksX8_addsMatch_2 0 rfl rfl)
theorem dX8_addsMatch_49 : decode cX8_addsMatch 49 = .ok (.iastore, 1) := dk_79 (dk_at dksX8_addsMatch_2 3 rfl rfl)
theorem dX8_addsMatch_50 : decode cX8_addsMatch 50 = .ok (.iinc 1 1, 3) := dk_132 1 1 (dk_at dksX8_addsMatch_2 4 rfl rfl)
theorem dX8_addsMatch_53 : decode cX8_addsMatch 53 = .ok (.goto (-51), 3) := dk_167 255 205 (dk_at dksX8_addsMatch_2 7 rfl rfl)
theorem dX8_addsMatch_56 : decode cX8_addsMatch 56 = .ok (.aload_n 0, 1) := dk_42 (dk_at dksX8_addsMatch_2 10 rfl rfl)
theorem dX8_addsMatch_57 : decode cX8_addsMatch 57 = .ok (.dup, 1) := dk_89 (dk_at dksX8_addsMatch_2 11 rfl rfl)
theorem dX8_addsMatch_58 : decode cX8_addsMatch 58 = .ok (.getfield 429, 3) := dk_180 1 173 (dk_at dksX8_addsMatch_2 12 rfl rfl)
theorem dX8_addsMatch_61 : decode cX8_addsMatch 61 = .ok (.aload_n 0, 1) := dk_42 (dk_at dksX8_addsMatch_2 15 rfl rfl)
theorem dX8_addsMatch_62 : decode cX8_addsMatch 62 = .ok (.getfield 429, 3) := dk_180 1 173 (dk_at dksX8_addsMatch_2 16 rfl rfl)
theorem dX8_addsMatch_65 : decode cX8_addsMatch 65 = .ok (.aload_n 0, 1) := dk_42 (dk_at dksX8_addsMatch_2 19 rfl rfl)
theorem dX8_addsMatch_66 : decode cX8_addsMatch 66 = .ok (.getfield 98, 3) := dk_180 0 98 (dk_at dksX8_addsMatch_2 20 rfl rfl)
theorem dX8_addsMatch_69 : decode cX8_addsMatch 69 = .ok (.if_icmp .ge 7, 3) := dk_162 0 7 (dk_at dksX8_addsMatch_3 0 rfl rfl)
theorem dX8_addsMatch_72 : decode cX8_addsMatch 72 = .ok (.iconst 1, 1) := dk_4 (dk_at dksX8_addsMatch_3 3 rfl rfl)
theorem dX8_addsMatch_73 : decode cX8_addsMatch 73 = .ok (.goto 4, 3) := dk_167 0 4 (dk_at dksX8_addsMatch_3 4 rfl rfl)
theorem dX8_addsMatch_76 : decode cX8_addsMatch 76 = .ok (.iconst 0, 1) := dk_3 (dk_at dksX8_addsMatch_3 7 rfl rfl)
theorem dX8_addsMatch_77 : decode cX8_addsMatch 77 = .ok (.iadd, 1) := dk_96 (dk_at dksX8_addsMatch_3 8 rfl rfl)
theorem dX8_addsMatch_78 : decode cX8_addsMatch 78 = .ok (.putfield 429, 3) := dk_181 1 173 (dk_at dksX8_addsMatch_3 9 rfl rfl)
theorem dX8_addsMatch_81 : decode cX8_addsMatch 81 = .ok (.return_, 1) := dk_177 (dk_at dksX8_addsMatch_3 12 rfl rfl)
abbrev cX8_goesOn : ByteArray := prog_20_method_73_code
def yX8_goesOn : MethodName := ⟨RX8, "goesOn", "()Z"⟩
def dkwX8_goesOn_3 : List UInt8 := [46, 162, 0, 7, 4, 167, 0, 4, 3, 172]
abbrev dktX8_goesOn_3 : List UInt8 := dkwX8_goesOn_3 ++ []
def dkwX8_goesOn_2 : List UInt8 := [42, 180, 0, 165, 27, 92, 46, 4, 96, 79, 167, 255, 217, 42, 180, 0, 165, 3, 46, 42, 180, 0, 159, 3]
abbrev dktX8_goesOn_2 : List UInt8 := dkwX8_goesOn_2 ++ dktX8_goesOn_3
def dkwX8_goesOn_1 : List UInt8 := [180, 0, 165, 27, 46, 42, 180, 0, 159, 27, 46, 160, 0, 26, 42, 180, 0, 165, 27, 3, 79, 132, 1, 255]
abbrev dktX8_goesOn_1 : List UInt8 := dkwX8_goesOn_1 ++ dktX8_goesOn_2
def dkwX8_goesOn_0 : List UInt8 := [42, 180, 1, 43, 4, 100, 60, 42, 180, 0, 165, 27, 92, 46, 4, 96, 79, 27, 158, 0, 41, 42]
abbrev dktX8_goesOn_0 : List UInt8 := dkwX8_goesOn_0 ++ dktX8_goesOn_1
theorem dksX8_goesOn_0 : cX8_goesOn.data.toList.drop 0 = dktX8_goesOn_0 := by decide +kernel
theorem dksX8_goesOn_1 : cX8_goesOn.data.toList.drop 22 = dktX8_goesOn_1 := dk_seg dksX8_goesOn_0 22 rfl rfl
theorem dksX8_goesOn_2 : cX8_goesOn.data.toList.drop 46 = dktX8_goesOn_2 := dk_seg dksX8_goesOn_1 24 rfl rfl
theorem dksX8_goesOn_3 : cX8_goesOn.data.toList.drop 70 = dktX8_goesOn_3 := dk_seg dksX8_goesOn_2 24 rfl rfl
theorem dX8_goesOn_0 : decode cX8_goesOn 0 = .ok (.aload_n 0, 1) := dk_42 (dk_at dksX8_goesOn_0 0 rfl rfl)
theorem dX8_goesOn_1 : decode cX8_goesOn 1 = .ok (.getfield 299, 3) := dk_180 1 43 (dk_at dksX8_goesOn_0 1 rfl rfl)
theorem dX8_goesOn_4 : decode cX8_goesOn 4 = .ok (.iconst 1, 1) := dk_4 (dk_at dksX8_goesOn_0 4 rfl rfl)
theorem dX8_goesOn_5 : decode cX8_goesOn 5 = .ok (.isub, 1) := dk_100 (dk_at dksX8_goesOn_0 5 rfl rfl)
theorem dX8_goesOn_6 : decode cX8_goesOn 6 = .ok (.istore_n 1, 1) := dk_60 (dk_at dksX8_goesOn_0 6 rfl rfl)
theorem dX8_goesOn_7 : decode cX8_goesOn 7 = .ok (.aload_n 0, 1) := dk_42 (dk_at dksX8_goesOn_0 7 rfl rfl)
theorem dX8_goesOn_8 : decode cX8_goesOn 8 = .ok (.getfield 165, 3) := dk_180 0 165 (dk_at dksX8_goesOn_0 8 rfl rfl)
theorem dX8_goesOn_11 : decode cX8_goesOn 11 = .ok (.iload_n 1, 1) := dk_27 (dk_at dksX8_goesOn_0 11 rfl rfl)
theorem dX8_goesOn_12 : decode cX8_goesOn 12 = .ok (.dup2, 1) := dk_92 (dk_at dksX8_goesOn_0 12 rfl rfl)
theorem dX8_goesOn_13 : decode cX8_goesOn 13 = .ok (.iaload, 1) := dk_46 (dk_at dksX8_goesOn_0 13 rfl rfl)
theorem dX8_goesOn_14 : decode cX8_goesOn 14 = .ok (.iconst 1, 1) := dk_4 (dk_at dksX8_goesOn_0 14 rfl rfl)
theorem dX8_goesOn_15 : decode cX8_goesOn 15 = .ok (.iadd, 1) := dk_96 (dk_at dksX8_goesOn_0 15 rfl rfl)
theorem dX8_goesOn_16 : decode cX8_goesOn 16 = .ok (.iastore, 1) := dk_79 (dk_at dksX8_goesOn_0 16 rfl rfl)
theorem dX8_goesOn_17 : decode cX8_goesOn 17 = .ok (.iload_n 1, 1) := dk_27 (dk_at dksX8_goesOn_0 17 rfl rfl)
theorem dX8_goesOn_18 : decode cX8_goesOn 18 = .ok (.ifCond .le 41, 3) := dk_158 0 41 (dk_at dksX8_goesOn_0 18 rfl rfl)
theorem dX8_goesOn_21 : decode cX8_goesOn 21 = .ok (.aload_n 0, 1) := dk_42 (dk_at dksX8_goesOn_0 21 rfl rfl)
theorem dX8_goesOn_22 : decode cX8_goesOn 22 = .ok (.getfield 165, 3) := dk_180 0 165 (dk_at dksX8_goesOn_1 0 rfl rfl)
theorem dX8_goesOn_25 : decode cX8_goesOn 25 = .ok (.iload_n 1, 1) := dk_27 (dk_at dksX8_goesOn_1 3 rfl rfl)
theorem dX8_goesOn_26 : decode cX8_goesOn 26 = .ok (.iaload, 1) := dk_46 (dk_at dksX8_goesOn_1 4 rfl rfl)
theorem dX8_goesOn_27 : decode cX8_goesOn 27 = .ok (.aload_n 0, 1) := dk_42 (dk_at dksX8_goesOn_1 5 rfl rfl)
theorem dX8_goesOn_28 : decode cX8_goesOn 28 = .ok (.getfield 159, 3) := dk_180 0 159 (dk_at dksX8_goesOn_1 6 rfl rfl)
theorem dX8_goesOn_31 : decode cX8_goesOn 31 = .ok (.iload_n 1, 1) := dk_27 (dk_at dksX8_goesOn_1 9 rfl rfl)
theorem dX8_goesOn_32 : decode cX8_goesOn 32 = .ok (.iaload, 1) := dk_46 (dk_at dksX8_goesOn_1 10 rfl rfl)
theorem dX8_goesOn_33 : decode cX8_goesOn 33 = .ok (.if_icmp .ne 26, 3) := dk_160 0 26 (dk_at dksX8_goesOn_1 11 rfl rfl)
theorem dX8_goesOn_36 : decode cX8_goesOn 36 = .ok (.aload_n 0, 1) := dk_42 (dk_at dksX8_goesOn_1 14 rfl rfl)
theorem dX8_goesOn_37 : decode cX8_goesOn 37 = .ok (.getfield 165, 3) := dk_180 0 165 (dk_at dksX8_goesOn_1 15 rfl rfl)
theorem dX8_goesOn_40 : decode cX8_goesOn 40 = .ok (.iload_n 1, 1) := dk_27 (dk_at dksX8_goesOn_1 18 rfl rfl)
theorem dX8_goesOn_41 : decode cX8_goesOn 41 = .ok (.iconst 0, 1) := dk_3 (dk_at dksX8_goesOn_1 19 rfl rfl)
theorem dX8_goesOn_42 : decode cX8_goesOn 42 = .ok (.iastore, 1) := dk_79 (dk_at dksX8_goesOn_1 20 rfl rfl)
theorem dX8_goesOn_43 : decode cX8_goesOn 43 = .ok (.iinc 1 (-1), 3) := dk_132 1 255 (dk_at dksX8_goesOn_1 21 rfl rfl)
theorem dX8_goesOn_46 : decode cX8_goesOn 46 = .ok (.aload_n 0, 1) := dk_42 (dk_at dksX8_goesOn_2 0 rfl rfl)
theorem dX8_goesOn_47 : decode cX8_goesOn 47 = .ok (.getfield 165, 3) := dk_180 0 165 (dk_at dksX8_goesOn_2 1 rfl rfl)
theorem dX8_goesOn_50 : decode cX8_goesOn 50 = .ok (.iload_n 1, 1) := dk_27 (dk_at dksX8_goesOn_2 4 rfl rfl)
theorem dX8_goesOn_51 : decode cX8_goesOn 51 = .ok (.dup2, 1) := dk_92 (dk_at dksX8_goesOn_2 5 rfl rfl)
theorem dX8_goesOn_52 : decode cX8_goesOn 52 = .ok (.iaload, 1) := dk_46 (dk_at dksX8_goesOn_2 6 rfl rfl)
theorem dX8_goesOn_53 : decode cX8_goesOn 53 = .ok (.iconst 1, 1) := dk_4 (dk_at dksX8_goesOn_2 7 rfl rfl)
theorem dX8_goesOn_54 : decode cX8_goesOn 54 = .ok (.iadd, 1) := dk_96 (dk_at dksX8_goesOn_2 8 rfl rfl)
theorem dX8_goesOn_55 : decode cX8_goesOn 55 = .ok (.iastore, 1) := dk_79 (dk_at dksX8_goesOn_2 9 rfl rfl)
theorem dX8_goesOn_56 : decode cX8_goesOn 56 = .ok (.goto (-39), 3) := dk_167 255 217 (dk_at dksX8_goesOn_2 10 rfl rfl)
theorem dX8_goesOn_59 : decode cX8_goesOn 59 = .ok (.aload_n 0, 1) := dk_42 (dk_at dksX8_goesOn_2 13 rfl rfl)
theorem dX8_goesOn_60 : decode cX8_goesOn 60 = .ok (.getfield 165, 3) := dk_180 0 165 (dk_at dksX8_goesOn_2 14 rfl rfl)
theorem dX8_goesOn_63 : decode cX8_goesOn 63 = .ok (.iconst 0, 1) := dk_3 (dk_at dksX8_goesOn_2 17 rfl rfl)
theorem dX8_goesOn_64 : decode cX8_goesOn 64 = .ok (.iaload, 1) := dk_46 (dk_at dksX8_goesOn_2 18 rfl rfl)
theorem dX8_goesOn_65 : decode cX8_goesOn 65 = .ok (.aload_n 0, 1) := dk_42 (dk_at dksX8_goesOn_2 19 rfl rfl)
theorem dX8_goesOn_66 : decode cX8_goesOn 66 = .ok (.getfield 159, 3) := dk_180 0 159 (dk_at dksX8_goesOn_2 20 rfl rfl)
theorem dX8_goesOn_69 : decode cX8_goesOn 69 = .ok (.iconst 0, 1) := dk_3 (dk_at dksX8_goesOn_2 23 rfl rfl)
theorem dX8_goesOn_70 : decode cX8_goesOn 70 = .ok (.iaload, 1) := dk_46 (dk_at dksX8_goesOn_3 0 rfl rfl)
theorem dX8_goesOn_71 : decode cX8_goesOn 71 = .ok (.if_icmp .ge 7, 3) := dk_162 0 7 (dk_at dksX8_goesOn_3 1 rfl rfl)
theorem dX8_goesOn_74 : decode cX8_goesOn 74 = .ok (.iconst 1, 1) := dk_4 (dk_at dksX8_goesOn_3 4 rfl rfl)
theorem dX8_goesOn_75 : decode cX8_goesOn 75 = .ok (.goto 4, 3) := dk_167 0 4 (dk_at dksX8_goesOn_3 5 rfl rfl)
theorem dX8_goesOn_78 : decode cX8_goesOn 78 = .ok (.iconst 0, 1) := dk_3 (dk_at dksX8_goesOn_3 8 rfl rfl)
theorem dX8_goesOn_79 : decode cX8_goesOn 79 = .ok (.ireturn, 1) := dk_172 (dk_at dksX8_goesOn_3 9 rfl rfl)
abbrev cX8_makesGroups : ByteArray := prog_20_method_77_code
def yX8_makesGroups : MethodName := ⟨RX8, "makesGroups", "()V"⟩
def dkwX8_makesGroups_6 : List UInt8 := [132, 2, 1, 167, 255, 137, 132, 1, 1, 167, 255, 113, 177]
abbrev dktX8_makesGroups_6 : List UInt8 := dkwX8_makesGroups_6 ++ []
def dkwX8_makesGroups_5 : List UInt8 := [180, 0, 168, 6, 27, 104, 5, 96, 42, 180, 0, 177, 28, 46, 79, 42, 27, 4, 96, 181, 1, 173]
abbrev dktX8_makesGroups_5 : List UInt8 := dkwX8_makesGroups_5 ++ dktX8_makesGroups_6
def dkwX8_makesGroups_4 : List UInt8 := [42, 180, 0, 171, 28, 46, 79, 42, 180, 0, 168, 6, 27, 104, 4, 96, 42, 180, 0, 174, 28, 46, 79, 42]
abbrev dktX8_makesGroups_4 : List UInt8 := dkwX8_makesGroups_4 ++ dktX8_makesGroups_5
def dkwX8_makesGroups_3 : List UInt8 := [167, 0, 4, 3, 96, 62, 132, 4, 1, 167, 255, 214, 29, 27, 160, 0, 56, 42, 180, 0, 168, 6, 27, 104]
abbrev dktX8_makesGroups_3 : List UInt8 := dkwX8_makesGroups_3 ++ dktX8_makesGroups_4
def dkwX8_makesGroups_2 : List UInt8 := [42, 180, 0, 171, 21, 4, 46, 184, 1, 179, 42, 180, 0, 171, 28, 46, 184, 1, 179, 162, 0, 7, 4]
abbrev dktX8_makesGroups_2 : List UInt8 := dkwX8_makesGroups_2 ++ dktX8_makesGroups_3
def dkwX8_makesGroups_1 : List UInt8 := [61, 28, 42, 180, 1, 176, 162, 0, 117, 3, 62, 3, 54, 4, 21, 4, 42, 180, 1, 176, 162, 0, 39, 29]
abbrev dktX8_makesGroups_1 : List UInt8 := dkwX8_makesGroups_1 ++ dktX8_makesGroups_2
def dkwX8_makesGroups_0 : List UInt8 := [42, 3, 181, 1, 173, 3, 60, 27, 42, 180, 1, 176, 162, 0, 141, 27, 42, 180, 0, 98, 162, 0, 133, 3]
abbrev dktX8_makesGroups_0 : List UInt8 := dkwX8_makesGroups_0 ++ dktX8_makesGroups_1
theorem dksX8_makesGroups_0 : cX8_makesGroups.data.toList.drop 0 = dktX8_makesGroups_0 := by decide +kernel
theorem dksX8_makesGroups_1 : cX8_makesGroups.data.toList.drop 24 = dktX8_makesGroups_1 := dk_seg dksX8_makesGroups_0 24 rfl rfl
theorem dksX8_makesGroups_2 : cX8_makesGroups.data.toList.drop 48 = dktX8_makesGroups_2 := dk_seg dksX8_makesGroups_1 24 rfl rfl
theorem dksX8_makesGroups_3 : cX8_makesGroups.data.toList.drop 71 = dktX8_makesGroups_3 := dk_seg dksX8_makesGroups_2 23 rfl rfl
theorem dksX8_makesGroups_4 : cX8_makesGroups.data.toList.drop 95 = dktX8_makesGroups_4 := dk_seg dksX8_makesGroups_3 24 rfl rfl
theorem dksX8_makesGroups_5 : cX8_makesGroups.data.toList.drop 119 = dktX8_makesGroups_5 := dk_seg dksX8_makesGroups_4 24 rfl rfl
theorem dksX8_makesGroups_6 : cX8_makesGroups.data.toList.drop 141 = dktX8_makesGroups_6 := dk_seg dksX8_makesGroups_5 22 rfl rfl
theorem dX8_makesGroups_0 : decode cX8_makesGroups 0 = .ok (.aload_n 0, 1) := dk_42 (dk_at dksX8_makesGroups_0 0 rfl rfl)
theorem dX8_makesGroups_1 : decode cX8_makesGroups 1 = .ok (.iconst 0, 1) := dk_3 (dk_at dksX8_makesGroups_0 1 rfl rfl)
theorem dX8_makesGroups_2 : decode cX8_makesGroups 2 = .ok (.putfield 429, 3) := dk_181 1 173 (dk_at dksX8_makesGroups_0 2 rfl rfl)
theorem dX8_makesGroups_5 : decode cX8_makesGroups 5 = .ok (.iconst 0, 1) := dk_3 (dk_at dksX8_makesGroups_0 5 rfl rfl)
theorem dX8_makesGroups_6 : decode cX8_makesGroups 6 = .ok (.istore_n 1, 1) := dk_60 (dk_at dksX8_makesGroups_0 6 rfl rfl)
theorem dX8_makesGroups_7 : decode cX8_makesGroups 7 = .ok (.iload_n 1, 1) := dk_27 (dk_at dksX8_makesGroups_0 7 rfl rfl)
theorem dX8_makesGroups_8 : decode cX8_makesGroups 8 = .ok (.aload_n 0, 1) := dk_42 (dk_at dksX8_makesGroups_0 8 rfl rfl)
theorem dX8_makesGroups_9 : decode cX8_makesGroups 9 = .ok (.getfield 432, 3) := dk_180 1 176 (dk_at dksX8_makesGroups_0 9 rfl rfl)
theorem dX8_makesGroups_12 : decode cX8_makesGroups 12 = .ok (.if_icmp .ge 141, 3) := dk_162 0 141 (dk_at dksX8_makesGroups_0 12 rfl rfl)
theorem dX8_makesGroups_15 : decode cX8_makesGroups 15 = .ok (.iload_n 1, 1) := dk_27 (dk_at dksX8_makesGroups_0 15 rfl rfl)
theorem dX8_makesGroups_16 : decode cX8_makesGroups 16 = .ok (.aload_n 0, 1) := dk_42 (dk_at dksX8_makesGroups_0 16 rfl rfl)
theorem dX8_makesGroups_17 : decode cX8_makesGroups 17 = .ok (.getfield 98, 3) := dk_180 0 98 (dk_at dksX8_makesGroups_0 17 rfl rfl)
theorem dX8_makesGroups_20 : decode cX8_makesGroups 20 = .ok (.if_icmp .ge 133, 3) := dk_162 0 133 (dk_at dksX8_makesGroups_0 20 rfl rfl)
theorem dX8_makesGroups_23 : decode cX8_makesGroups 23 = .ok (.iconst 0, 1) := dk_3 (dk_at dksX8_makesGroups_0 23 rfl rfl)
theorem dX8_makesGroups_24 : decode cX8_makesGroups 24 = .ok (.istore_n 2, 1) := dk_61 (dk_at dksX8_makesGroups_1 0 rfl rfl)
theorem dX8_makesGroups_25 : decode cX8_makesGroups 25 = .ok (.iload_n 2, 1) := dk_28 (dk_at dksX8_makesGroups_1 1 rfl rfl)
theorem dX8_makesGroups_26 : decode cX8_makesGroups 26 = .ok (.aload_n 0, 1) := dk_42 (dk_at dksX8_makesGroups_1 2 rfl rfl)
theorem dX8_makesGroups_27 : decode cX8_makesGroups 27 = .ok (.getfield 432, 3) := dk_180 1 176 (dk_at dksX8_makesGroups_1 3 rfl rfl)
theorem dX8_makesGroups_30 : decode cX8_makesGroups 30 = .ok (.if_icmp .ge 117, 3) := dk_162 0 117 (dk_at dksX8_makesGroups_1 6 rfl rfl)
theorem dX8_makesGroups_33 : decode cX8_makesGroups 33 = .ok (.iconst 0, 1) := dk_3 (dk_at dksX8_makesGroups_1 9 rfl rfl)
theorem dX8_makesGroups_34 : decode cX8_makesGroups 34 = .ok (.istore_n 3, 1) := dk_62 (dk_at dksX8_makesGroups_1 10 rfl rfl)
theorem dX8_makesGroups_35 : decode cX8_makesGroups 35 = .ok (.iconst 0, 1) := dk_3 (dk_at dksX8_makesGroups_1 11 rfl rfl)
theorem dX8_makesGroups_36 : decode cX8_makesGroups 36 = .ok (.istore 4, 2) := dk_54 4 (dk_at dksX8_makesGroups_1 12 rfl rfl)
theorem dX8_makesGroups_38 : decode cX8_makesGroups 38 = .ok (.iload 4, 2) := dk_21 4 (dk_at dksX8_makesGroups_1 14 rfl rfl)
theorem dX8_makesGroups_40 : decode cX8_makesGroups 40 = .ok (.aload_n 0, 1) := dk_42 (dk_at dksX8_makesGroups_1 16 rfl rfl)
theorem dX8_makesGroups_41 : decode cX8_makesGroups 41 = .ok (.getfield 432, 3) := dk_180 1 176 (dk_at dksX8_makesGroups_1 17 rfl rfl)
theorem dX8_makesGroups_44 : decode cX8_makesGroups 44 = .ok (.if_icmp .ge 39, 3) := dk_162 0 39 (dk_at dksX8_makesGroups_1 20 rfl rfl)
theorem dX8_makesGroups_47 : decode cX8_makesGroups 47 = .ok (.iload_n 3, 1) := dk_29 (dk_at dksX8_makesGroups_1 23 rfl rfl)
theorem dX8_makesGroups_48 : decode cX8_makesGroups 48 = .ok (.aload_n 0, 1) := dk_42 (dk_at dksX8_makesGroups_2 0 rfl rfl)
theorem dX8_makesGroups_49 : decode cX8_makesGroups 49 = .ok (.getfield 171, 3) := dk_180 0 171 (dk_at dksX8_makesGroups_2 1 rfl rfl)
theorem dX8_makesGroups_52 : decode cX8_makesGroups 52 = .ok (.iload 4, 2) := dk_21 4 (dk_at dksX8_makesGroups_2 4 rfl rfl)
theorem dX8_makesGroups_54 : decode cX8_makesGroups 54 = .ok (.iaload, 1) := dk_46 (dk_at dksX8_makesGroups_2 6 rfl rfl)
theorem dX8_makesGroups_55 : decode cX8_makesGroups 55 = .ok (.invokestatic 435, 3) := dk_184 1 179 (dk_at dksX8_makesGroups_2 7 rfl rfl)
theorem dX8_makesGroups_58 : decode cX8_makesGroups 58 = .ok (.aload_n 0, 1) := dk_42 (dk_at dksX8_makesGroups_2 10 rfl rfl)
theorem dX8_makesGroups_59 : decode cX8_makesGroups 59 = .ok (.getfield 171, 3) := dk_180 0 171 (dk_at dksX8_makesGroups_2 11 rfl rfl)
theorem dX8_makesGroups_62 : decode cX8_makesGroups 62 = .ok (.iload_n 2, 1) := dk_28 (dk_at dksX8_makesGroups_2 14 rfl rfl)
theorem dX8_makesGroups_63 : decode cX8_makesGroups 63 = .ok (.iaload, 1) := dk_46 (dk_at dksX8_makesGroups_2 15 rfl rfl)
theorem dX8_makesGroups_64 : decode cX8_makesGroups 64 = .ok (.invokestatic 435, 3) := dk_184 1 179 (dk_at dksX8_makesGroups_2 16 rfl rfl)
theorem dX8_makesGroups_67 : decode cX8_makesGroups 67 = .ok (.if_icmp .ge 7, 3) := dk_162 0 7 (dk_at dksX8_makesGroups_2 19 rfl rfl)
theorem dX8_makesGroups_70 : decode cX8_makesGroups 70 = .ok (.iconst 1, 1) := dk_4 (dk_at dksX8_makesGroups_2 22 rfl rfl)
theorem dX8_makesGroups_71 : decode cX8_makesGroups 71 = .ok (.goto 4, 3) := dk_167 0 4 (dk_at dksX8_makesGroups_3 0 rfl rfl)
theorem dX8_makesGroups_74 : decode cX8_makesGroups 74 = .ok (.iconst 0, 1) := dk_3 (dk_at dksX8_makesGroups_3 3 rfl rfl)
theorem dX8_makesGroups_75 : decode cX8_makesGroups 75 = .ok (.iadd, 1) := dk_96 (dk_at dksX8_makesGroups_3 4 rfl rfl)
theorem dX8_makesGroups_76 : decode cX8_makesGroups 76 = .ok (.istore_n 3, 1) := dk_62 (dk_at dksX8_makesGroups_3 5 rfl rfl)
theorem dX8_makesGroups_77 : decode cX8_makesGroups 77 = .ok (.iinc 4 1, 3) := dk_132 4 1 (dk_at dksX8_makesGroups_3 6 rfl rfl)
theorem dX8_makesGroups_80 : decode cX8_makesGroups 80 = .ok (.goto (-42), 3) := dk_167 255 214 (dk_at dksX8_makesGroups_3 9 rfl rfl)
theorem dX8_makesGroups_83 : decode cX8_makesGroups 83 = .ok (.iload_n 3, 1) := dk_29 (dk_at dksX8_makesGroups_3 12 rfl rfl)
theorem dX8_makesGroups_84 : decode cX8_makesGroups 84 = .ok (.iload_n 1, 1) := dk_27 (dk_at dksX8_makesGroups_3 13 rfl rfl)
theorem dX8_makesGroups_85 : decode cX8_makesGroups 85 = .ok (.if_icmp .ne 56, 3) := dk_160 0 56 (dk_at dksX8_makesGroups_3 14 rfl rfl)
theorem dX8_makesGroups_88 : decode cX8_makesGroups 88 = .ok (.aload_n 0, 1) := dk_42 (dk_at dksX8_makesGroups_3 17 rfl rfl)
theorem dX8_makesGroups_89 : decode cX8_makesGroups 89 = .ok (.getfield 168, 3) := dk_180 0 168 (dk_at dksX8_makesGroups_3 18 rfl rfl)
theorem dX8_makesGroups_92 : decode cX8_makesGroups 92 = .ok (.iconst 3, 1) := dk_6 (dk_at dksX8_makesGroups_3 21 rfl rfl)
theorem dX8_makesGroups_93 : decode cX8_makesGroups 93 = .ok (.iload_n 1, 1) := dk_27 (dk_at dksX8_makesGroups_3 22 rfl rfl)
theorem dX8_makesGroups_94 : decode cX8_makesGroups 94 = .ok (.imul, 1) := dk_104 (dk_at dksX8_makesGroups_3 23 rfl rfl)
theorem dX8_makesGroups_95 : decode cX8_makesGroups 95 = .ok (.aload_n 0, 1) := dk_42 (dk_at dksX8_makesGroups_4 0 rfl rfl)
theorem dX8_makesGroups_96 : decode cX8_makesGroups 96 = .ok (.getfield 171, 3) := dk_180 0 171 (dk_at dksX8_makesGroups_4 1 rfl rfl)
theorem dX8_makesGroups_99 : decode cX8_makesGroups 99 = .ok (.iload_n 2, 1) := dk_28 (dk_at dksX8_makesGroups_4 4 rfl rfl)
theorem dX8_makesGroups_100 : decode cX8_makesGroups 100 = .ok (.iaload, 1) := dk_46 (dk_at dksX8_makesGroups_4 5 rfl rfl)
theorem dX8_makesGroups_101 : decode cX8_makesGroups 101 = .ok (.iastore, 1) := dk_79 (dk_at dksX8_makesGroups_4 6 rfl rfl)
theorem dX8_makesGroups_102 : decode cX8_makesGroups 102 = .ok (.aload_n 0, 1) := dk_42 (dk_at dksX8_makesGroups_4 7 rfl rfl)
theorem dX8_makesGroups_103 : decode cX8_makesGroups 103 = .ok (.getfield 168, 3) := dk_180 0 168 (dk_at dksX8_makesGroups_4 8 rfl rfl)
theorem dX8_makesGroups_106 : decode cX8_makesGroups 106 = .ok (.iconst 3, 1) := dk_6 (dk_at dksX8_makesGroups_4 11 rfl rfl)
theorem dX8_makesGroups_107 : decode cX8_makesGroups 107 = .ok (.iload_n 1, 1) := dk_27 (dk_at dksX8_makesGroups_4 12 rfl rfl)
theorem dX8_makesGroups_108 : decode cX8_makesGroups 108 = .ok (.imul, 1) := dk_104 (dk_at dksX8_makesGroups_4 13 rfl rfl)
theorem dX8_makesGroups_109 : decode cX8_makesGroups 109 = .ok (.iconst 1, 1) := dk_4 (dk_at dksX8_makesGroups_4 14 rfl rfl)
theorem dX8_makesGroups_110 : decode cX8_makesGroups 110 = .ok (.iadd, 1) := dk_96 (dk_at dksX8_makesGroups_4 15 rfl rfl)
theorem dX8_makesGroups_111 : decode cX8_makesGroups 111 = .ok (.aload_n 0, 1) := dk_42 (dk_at dksX8_makesGroups_4 16 rfl rfl)
theorem dX8_makesGroups_112 : decode cX8_makesGroups 112 = .ok (.getfield 174, 3) := dk_180 0 174 (dk_at dksX8_makesGroups_4 17 rfl rfl)
theorem dX8_makesGroups_115 : decode cX8_makesGroups 115 = .ok (.iload_n 2, 1) := dk_28 (dk_at dksX8_makesGroups_4 20 rfl rfl)
theorem dX8_makesGroups_116 : decode cX8_makesGroups 116 = .ok (.iaload, 1) := dk_46 (dk_at dksX8_makesGroups_4 21 rfl rfl)
theorem dX8_makesGroups_117 : decode cX8_makesGroups 117 = .ok (.iastore, 1) := dk_79 (dk_at dksX8_makesGroups_4 22 rfl rfl)
theorem dX8_makesGroups_118 : decode cX8_makesGroups 118 = .ok (.aload_n 0, 1) := dk_42 (dk_at dksX8_makesGroups_4 23 rfl rfl)
theorem dX8_makesGroups_119 : decode cX8_makesGroups 119 = .ok (.getfield 168, 3) := dk_180 0 168 (dk_at dksX8_makesGroups_5 0 rfl rfl)
theorem dX8_makesGroups_122 : decode cX8_makesGroups 122 = .ok (.iconst 3, 1) := dk_6 (dk_at dksX8_makesGroups_5 3 rfl rfl)
theorem dX8_makesGroups_123 : decode cX8_makesGroups 123 = .ok (.iload_n 1, 1) := dk_27 (dk_at dksX8_makesGroups_5 4 rfl rfl)
theorem dX8_makesGroups_124 : decode cX8_makesGroups 124 = .ok (.imul, 1) := dk_104 (dk_at dksX8_makesGroups_5 5 rfl rfl)
theorem dX8_makesGroups_125 : decode cX8_makesGroups 125 = .ok (.iconst 2, 1) := dk_5 (dk_at dksX8_makesGroups_5 6 rfl rfl)
theorem dX8_makesGroups_126 : decode cX8_makesGroups 126 = .ok (.iadd, 1) := dk_96 (dk_at dksX8_makesGroups_5 7 rfl rfl)
theorem dX8_makesGroups_127 : decode cX8_makesGroups 127 = .ok (.aload_n 0, 1) := dk_42 (dk_at dksX8_makesGroups_5 8 rfl rfl)
theorem dX8_makesGroups_128 : decode cX8_makesGroups 128 = .ok (.getfield 177, 3) := dk_180 0 177 (dk_at dksX8_makesGroups_5 9 rfl rfl)
theorem dX8_makesGroups_131 : decode cX8_makesGroups 131 = .ok (.iload_n 2, 1) := dk_28 (dk_at dksX8_makesGroups_5 12 rfl rfl)
theorem dX8_makesGroups_132 : decode cX8_makesGroups 132 = .ok (.iaload, 1) := dk_46 (dk_at dksX8_makesGroups_5 13 rfl rfl)
theorem dX8_makesGroups_133 : decode cX8_makesGroups 133 = .ok (.iastore, 1) := dk_79 (dk_at dksX8_makesGroups_5 14 rfl rfl)
theorem dX8_makesGroups_134 : decode cX8_makesGroups 134 = .ok (.aload_n 0, 1) := dk_42 (dk_at dksX8_makesGroups_5 15 rfl rfl)
theorem dX8_makesGroups_135 : decode cX8_makesGroups 135 = .ok (.iload_n 1, 1) := dk_27 (dk_at dksX8_makesGroups_5 16 rfl rfl)
theorem dX8_makesGroups_136 : decode cX8_makesGroups 136 = .ok (.iconst 1, 1) := dk_4 (dk_at dksX8_makesGroups_5 17 rfl rfl)
theorem dX8_makesGroups_137 : decode cX8_makesGroups 137 = .ok (.iadd, 1) := dk_96 (dk_at dksX8_makesGroups_5 18 rfl rfl)
theorem dX8_makesGroups_138 : decode cX8_makesGroups 138 = .ok (.putfield 429, 3) := dk_181 1 173 (dk_at dksX8_makesGroups_5 19 rfl rfl)
theorem dX8_makesGroups_141 : decode cX8_makesGroups 141 = .ok (.iinc 2 1, 3) := dk_132 2 1 (dk_at dksX8_makesGroups_6 0 rfl rfl)
theorem dX8_makesGroups_144 : decode cX8_makesGroups 144 = .ok (.goto (-119), 3) := dk_167 255 137 (dk_at dksX8_makesGroups_6 3 rfl rfl)
theorem dX8_makesGroups_147 : decode cX8_makesGroups 147 = .ok (.iinc 1 1, 3) := dk_132 1 1 (dk_at dksX8_makesGroups_6 6 rfl rfl)
theorem dX8_makesGroups_150 : decode cX8_makesGroups 150 = .ok (.goto (-143), 3) := dk_167 255 113 (dk_at dksX8_makesGroups_6 9 rfl rfl)
theorem dX8_makesGroups_153 : decode cX8_makesGroups 153 = .ok (.return_, 1) := dk_177 (dk_at dksX8_makesGroups_6 12 rfl rfl)
abbrev cX8_rankOf : ByteArray := prog_20_method_76_code
def yX8_rankOf : MethodName := ⟨RX8, "rankOf", "(I)I"⟩
def dkwX8_rankOf_1 : List UInt8 := [167, 0, 4, 26, 172]
abbrev dktX8_rankOf_1 : List UInt8 := dkwX8_rankOf_1 ++ []
def dkwX8_rankOf_0 : List UInt8 := [26, 17, 19, 137, 160, 0, 9, 17, 248, 48, 167, 0, 17, 26, 17, 19, 136, 160, 0, 9, 17, 250, 36]
abbrev dktX8_rankOf_0 : List UInt8 := dkwX8_rankOf_0 ++ dktX8_rankOf_1
theorem dksX8_rankOf_0 : cX8_rankOf.data.toList.drop 0 = dktX8_rankOf_0 := by decide +kernel
theorem dksX8_rankOf_1 : cX8_rankOf.data.toList.drop 23 = dktX8_rankOf_1 := dk_seg dksX8_rankOf_0 23 rfl rfl
theorem dX8_rankOf_0 : decode cX8_rankOf 0 = .ok (.iload_n 0, 1) := dk_26 (dk_at dksX8_rankOf_0 0 rfl rfl)
theorem dX8_rankOf_1 : decode cX8_rankOf 1 = .ok (.sipush 5001, 3) := dk_17 19 137 (dk_at dksX8_rankOf_0 1 rfl rfl)
theorem dX8_rankOf_4 : decode cX8_rankOf 4 = .ok (.if_icmp .ne 9, 3) := dk_160 0 9 (dk_at dksX8_rankOf_0 4 rfl rfl)
theorem dX8_rankOf_7 : decode cX8_rankOf 7 = .ok (.sipush (-2000), 3) := dk_17 248 48 (dk_at dksX8_rankOf_0 7 rfl rfl)
theorem dX8_rankOf_10 : decode cX8_rankOf 10 = .ok (.goto 17, 3) := dk_167 0 17 (dk_at dksX8_rankOf_0 10 rfl rfl)
theorem dX8_rankOf_13 : decode cX8_rankOf 13 = .ok (.iload_n 0, 1) := dk_26 (dk_at dksX8_rankOf_0 13 rfl rfl)
theorem dX8_rankOf_14 : decode cX8_rankOf 14 = .ok (.sipush 5000, 3) := dk_17 19 136 (dk_at dksX8_rankOf_0 14 rfl rfl)
theorem dX8_rankOf_17 : decode cX8_rankOf 17 = .ok (.if_icmp .ne 9, 3) := dk_160 0 9 (dk_at dksX8_rankOf_0 17 rfl rfl)
theorem dX8_rankOf_20 : decode cX8_rankOf 20 = .ok (.sipush (-1500), 3) := dk_17 250 36 (dk_at dksX8_rankOf_0 20 rfl rfl)
theorem dX8_rankOf_23 : decode cX8_rankOf 23 = .ok (.goto 4, 3) := dk_167 0 4 (dk_at dksX8_rankOf_1 0 rfl rfl)
theorem dX8_rankOf_26 : decode cX8_rankOf 26 = .ok (.iload_n 0, 1) := dk_26 (dk_at dksX8_rankOf_1 3 rfl rfl)
theorem dX8_rankOf_27 : decode cX8_rankOf 27 = .ok (.ireturn, 1) := dk_172 (dk_at dksX8_rankOf_1 4 rfl rfl)
abbrev cX8_claimed : ByteArray := prog_20_method_80_code
def yX8_claimed : MethodName := ⟨RX8, "claimed", "()I"⟩
def dkwX8_claimed_3 : List UInt8 := [27, 28, 163, 0, 7, 28, 167, 0, 4, 2, 172]
abbrev dktX8_claimed_3 : List UInt8 := dkwX8_claimed_3 ++ []
def dkwX8_claimed_2 : List UInt8 := [42, 180, 0, 153, 29, 46, 167, 0, 4, 28, 61, 132, 3, 1, 167, 255, 203, 42, 180, 1, 164, 154, 0, 12]
abbrev dktX8_claimed_2 : List UInt8 := dkwX8_claimed_2 ++ dktX8_claimed_3
def dkwX8_claimed_1 : List UInt8 := [164, 0, 12, 42, 180, 0, 150, 29, 46, 167, 0, 4, 27, 60, 42, 180, 0, 153, 29, 46, 28, 162, 0, 12]
abbrev dktX8_claimed_1 : List UInt8 := dkwX8_claimed_1 ++ dktX8_claimed_2
def dkwX8_claimed_0 : List UInt8 := [3, 60, 42, 180, 0, 242, 61, 3, 62, 29, 42, 180, 1, 43, 162, 0, 51, 42, 180, 0, 150, 29, 46, 27]
abbrev dktX8_claimed_0 : List UInt8 := dkwX8_claimed_0 ++ dktX8_claimed_1
theorem dksX8_claimed_0 : cX8_claimed.data.toList.drop 0 = dktX8_claimed_0 := by decide +kernel
theorem dksX8_claimed_1 : cX8_claimed.data.toList.drop 24 = dktX8_claimed_1 := dk_seg dksX8_claimed_0 24 rfl rfl
theorem dksX8_claimed_2 : cX8_claimed.data.toList.drop 48 = dktX8_claimed_2 := dk_seg dksX8_claimed_1 24 rfl rfl
theorem dksX8_claimed_3 : cX8_claimed.data.toList.drop 72 = dktX8_claimed_3 := dk_seg dksX8_claimed_2 24 rfl rfl
theorem dX8_claimed_0 : decode cX8_claimed 0 = .ok (.iconst 0, 1) := dk_3 (dk_at dksX8_claimed_0 0 rfl rfl)
theorem dX8_claimed_1 : decode cX8_claimed 1 = .ok (.istore_n 1, 1) := dk_60 (dk_at dksX8_claimed_0 1 rfl rfl)
theorem dX8_claimed_2 : decode cX8_claimed 2 = .ok (.aload_n 0, 1) := dk_42 (dk_at dksX8_claimed_0 2 rfl rfl)
theorem dX8_claimed_3 : decode cX8_claimed 3 = .ok (.getfield 242, 3) := dk_180 0 242 (dk_at dksX8_claimed_0 3 rfl rfl)
theorem dX8_claimed_6 : decode cX8_claimed 6 = .ok (.istore_n 2, 1) := dk_61 (dk_at dksX8_claimed_0 6 rfl rfl)
theorem dX8_claimed_7 : decode cX8_claimed 7 = .ok (.iconst 0, 1) := dk_3 (dk_at dksX8_claimed_0 7 rfl rfl)
theorem dX8_claimed_8 : decode cX8_claimed 8 = .ok (.istore_n 3, 1) := dk_62 (dk_at dksX8_claimed_0 8 rfl rfl)
theorem dX8_claimed_9 : decode cX8_claimed 9 = .ok (.iload_n 3, 1) := dk_29 (dk_at dksX8_claimed_0 9 rfl rfl)
theorem dX8_claimed_10 : decode cX8_claimed 10 = .ok (.aload_n 0, 1) := dk_42 (dk_at dksX8_claimed_0 10 rfl rfl)
theorem dX8_claimed_11 : decode cX8_claimed 11 = .ok (.getfield 299, 3) := dk_180 1 43 (dk_at dksX8_claimed_0 11 rfl rfl)
theorem dX8_claimed_14 : decode cX8_claimed 14 = .ok (.if_icmp .ge 51, 3) := dk_162 0 51 (dk_at dksX8_claimed_0 14 rfl rfl)
theorem dX8_claimed_17 : decode cX8_claimed 17 = .ok (.aload_n 0, 1) := dk_42 (dk_at dksX8_claimed_0 17 rfl rfl)
theorem dX8_claimed_18 : decode cX8_claimed 18 = .ok (.getfield 150, 3) := dk_180 0 150 (dk_at dksX8_claimed_0 18 rfl rfl)
theorem dX8_claimed_21 : decode cX8_claimed 21 = .ok (.iload_n 3, 1) := dk_29 (dk_at dksX8_claimed_0 21 rfl rfl)
theorem dX8_claimed_22 : decode cX8_claimed 22 = .ok (.iaload, 1) := dk_46 (dk_at dksX8_claimed_0 22 rfl rfl)
theorem dX8_claimed_23 : decode cX8_claimed 23 = .ok (.iload_n 1, 1) := dk_27 (dk_at dksX8_claimed_0 23 rfl rfl)
theorem dX8_claimed_24 : decode cX8_claimed 24 = .ok (.if_icmp .le 12, 3) := dk_164 0 12 (dk_at dksX8_claimed_1 0 rfl rfl)
theorem dX8_claimed_27 : decode cX8_claimed 27 = .ok (.aload_n 0, 1) := dk_42 (dk_at dksX8_claimed_1 3 rfl rfl)
theorem dX8_claimed_28 : decode cX8_claimed 28 = .ok (.getfield 150, 3) := dk_180 0 150 (dk_at dksX8_claimed_1 4 rfl rfl)
theorem dX8_claimed_31 : decode cX8_claimed 31 = .ok (.iload_n 3, 1) := dk_29 (dk_at dksX8_claimed_1 7 rfl rfl)
theorem dX8_claimed_32 : decode cX8_claimed 32 = .ok (.iaload, 1) := dk_46 (dk_at dksX8_claimed_1 8 rfl rfl)
theorem dX8_claimed_33 : decode cX8_claimed 33 = .ok (.goto 4, 3) := dk_167 0 4 (dk_at dksX8_claimed_1 9 rfl rfl)
theorem dX8_claimed_36 : decode cX8_claimed 36 = .ok (.iload_n 1, 1) := dk_27 (dk_at dksX8_claimed_1 12 rfl rfl)
theorem dX8_claimed_37 : decode cX8_claimed 37 = .ok (.istore_n 1, 1) := dk_60 (dk_at dksX8_claimed_1 13 rfl rfl)
theorem dX8_claimed_38 : decode cX8_claimed 38 = .ok (.aload_n 0, 1) := dk_42 (dk_at dksX8_claimed_1 14 rfl rfl)
theorem dX8_claimed_39 : decode cX8_claimed 39 = .ok (.getfield 153, 3) := dk_180 0 153 (dk_at dksX8_claimed_1 15 rfl rfl)
theorem dX8_claimed_42 : decode cX8_claimed 42 = .ok (.iload_n 3, 1) := dk_29 (dk_at dksX8_claimed_1 18 rfl rfl)
theorem dX8_claimed_43 : decode cX8_claimed 43 = .ok (.iaload, 1) := dk_46 (dk_at dksX8_claimed_1 19 rfl rfl)
theorem dX8_claimed_44 : decode cX8_claimed 44 = .ok (.iload_n 2, 1) := dk_28 (dk_at dksX8_claimed_1 20 rfl rfl)
theorem dX8_claimed_45 : decode cX8_claimed 45 = .ok (.if_icmp .ge 12, 3) := dk_162 0 12 (dk_at dksX8_claimed_1 21 rfl rfl)
theorem dX8_claimed_48 : decode cX8_claimed 48 = .ok (.aload_n 0, 1) := dk_42 (dk_at dksX8_claimed_2 0 rfl rfl)
theorem dX8_claimed_49 : decode cX8_claimed 49 = .ok (.getfield 153, 3) := dk_180 0 153 (dk_at dksX8_claimed_2 1 rfl rfl)
theorem dX8_claimed_52 : decode cX8_claimed 52 = .ok (.iload_n 3, 1) := dk_29 (dk_at dksX8_claimed_2 4 rfl rfl)
theorem dX8_claimed_53 : decode cX8_claimed 53 = .ok (.iaload, 1) := dk_46 (dk_at dksX8_claimed_2 5 rfl rfl)
theorem dX8_claimed_54 : decode cX8_claimed 54 = .ok (.goto 4, 3) := dk_167 0 4 (dk_at dksX8_claimed_2 6 rfl rfl)
theorem dX8_claimed_57 : decode cX8_claimed 57 = .ok (.iload_n 2, 1) := dk_28 (dk_at dksX8_claimed_2 9 rfl rfl)
theorem dX8_claimed_58 : decode cX8_claimed 58 = .ok (.istore_n 2, 1) := dk_61 (dk_at dksX8_claimed_2 10 rfl rfl)
theorem dX8_claimed_59 : decode cX8_claimed 59 = .ok (.iinc 3 1, 3) := dk_132 3 1 (dk_at dksX8_claimed_2 11 rfl rfl)
theorem dX8_claimed_62 : decode cX8_claimed 62 = .ok (.goto (-53), 3) := dk_167 255 203 (dk_at dksX8_claimed_2 14 rfl rfl)
theorem dX8_claimed_65 : decode cX8_claimed 65 = .ok (.aload_n 0, 1) := dk_42 (dk_at dksX8_claimed_2 17 rfl rfl)
theorem dX8_claimed_66 : decode cX8_claimed 66 = .ok (.getfield 420, 3) := dk_180 1 164 (dk_at dksX8_claimed_2 18 rfl rfl)
theorem dX8_claimed_69 : decode cX8_claimed 69 = .ok (.ifCond .ne 12, 3) := dk_154 0 12 (dk_at dksX8_claimed_2 21 rfl rfl)
theorem dX8_claimed_72 : decode cX8_claimed 72 = .ok (.iload_n 1, 1) := dk_27 (dk_at dksX8_claimed_3 0 rfl rfl)
theorem dX8_claimed_73 : decode cX8_claimed 73 = .ok (.iload_n 2, 1) := dk_28 (dk_at dksX8_claimed_3 1 rfl rfl)
theorem dX8_claimed_74 : decode cX8_claimed 74 = .ok (.if_icmp .gt 7, 3) := dk_163 0 7 (dk_at dksX8_claimed_3 2 rfl rfl)
theorem dX8_claimed_77 : decode cX8_claimed 77 = .ok (.iload_n 2, 1) := dk_28 (dk_at dksX8_claimed_3 5 rfl rfl)
theorem dX8_claimed_78 : decode cX8_claimed 78 = .ok (.goto 4, 3) := dk_167 0 4 (dk_at dksX8_claimed_3 6 rfl rfl)
theorem dX8_claimed_81 : decode cX8_claimed 81 = .ok (.iconst (-1), 1) := dk_2 (dk_at dksX8_claimed_3 9 rfl rfl)
theorem dX8_claimed_82 : decode cX8_claimed 82 = .ok (.ireturn, 1) := dk_172 (dk_at dksX8_claimed_3 10 rfl rfl)
abbrev cX8_answers : ByteArray := prog_20_method_82_code
def yX8_answers : MethodName := ⟨RX8, "answers", "()I"⟩
def dkwX8_answers_0 : List UInt8 := [42, 3, 181, 0, 213, 42, 180, 1, 219, 172]
abbrev dktX8_answers_0 : List UInt8 := dkwX8_answers_0 ++ []
theorem dksX8_answers_0 : cX8_answers.data.toList.drop 0 = dktX8_answers_0 := by decide +kernel
theorem dX8_answers_0 : decode cX8_answers 0 = .ok (.aload_n 0, 1) := dk_42 (dk_at dksX8_answers_0 0 rfl rfl)
theorem dX8_answers_1 : decode cX8_answers 1 = .ok (.iconst 0, 1) := dk_3 (dk_at dksX8_answers_0 1 rfl rfl)
theorem dX8_answers_2 : decode cX8_answers 2 = .ok (.putfield 213, 3) := dk_181 0 213 (dk_at dksX8_answers_0 2 rfl rfl)
theorem dX8_answers_5 : decode cX8_answers 5 = .ok (.aload_n 0, 1) := dk_42 (dk_at dksX8_answers_0 5 rfl rfl)
theorem dX8_answers_6 : decode cX8_answers 6 = .ok (.getfield 475, 3) := dk_180 1 219 (dk_at dksX8_answers_0 6 rfl rfl)
theorem dX8_answers_9 : decode cX8_answers 9 = .ok (.ireturn, 1) := dk_172 (dk_at dksX8_answers_0 9 rfl rfl)
abbrev cX8_answer : ByteArray := prog_20_method_83_code
def yX8_answer : MethodName := ⟨RX8, "answer", "(II)I"⟩
def dkwX8_answer_2 : List UInt8 := [167, 0, 13, 42, 180, 0, 180, 6, 27, 104, 28, 96, 46, 172]
abbrev dktX8_answer_2 : List UInt8 := dkwX8_answer_2 ++ []
def dkwX8_answer_1 : List UInt8 := [184, 0, 216, 153, 0, 7, 3, 167, 0, 4, 4, 181, 0, 213, 42, 180, 0, 213, 158, 0, 7, 3]
abbrev dktX8_answer_1 : List UInt8 := dkwX8_answer_1 ++ dktX8_answer_2
def dkwX8_answer_0 : List UInt8 := [42, 27, 3, 42, 180, 1, 219, 4, 100, 184, 0, 216, 153, 0, 21, 28, 3, 42, 180, 1, 222, 4, 100]
abbrev dktX8_answer_0 : List UInt8 := dkwX8_answer_0 ++ dktX8_answer_1
theorem dksX8_answer_0 : cX8_answer.data.toList.drop 0 = dktX8_answer_0 := by decide +kernel
theorem dksX8_answer_1 : cX8_answer.data.toList.drop 23 = dktX8_answer_1 := dk_seg dksX8_answer_0 23 rfl rfl
theorem dksX8_answer_2 : cX8_answer.data.toList.drop 45 = dktX8_answer_2 := dk_seg dksX8_answer_1 22 rfl rfl
theorem dX8_answer_0 : decode cX8_answer 0 = .ok (.aload_n 0, 1) := dk_42 (dk_at dksX8_answer_0 0 rfl rfl)
theorem dX8_answer_1 : decode cX8_answer 1 = .ok (.iload_n 1, 1) := dk_27 (dk_at dksX8_answer_0 1 rfl rfl)
theorem dX8_answer_2 : decode cX8_answer 2 = .ok (.iconst 0, 1) := dk_3 (dk_at dksX8_answer_0 2 rfl rfl)
theorem dX8_answer_3 : decode cX8_answer 3 = .ok (.aload_n 0, 1) := dk_42 (dk_at dksX8_answer_0 3 rfl rfl)
theorem dX8_answer_4 : decode cX8_answer 4 = .ok (.getfield 475, 3) := dk_180 1 219 (dk_at dksX8_answer_0 4 rfl rfl)
theorem dX8_answer_7 : decode cX8_answer 7 = .ok (.iconst 1, 1) := dk_4 (dk_at dksX8_answer_0 7 rfl rfl)
theorem dX8_answer_8 : decode cX8_answer 8 = .ok (.isub, 1) := dk_100 (dk_at dksX8_answer_0 8 rfl rfl)
theorem dX8_answer_9 : decode cX8_answer 9 = .ok (.invokestatic 216, 3) := dk_184 0 216 (dk_at dksX8_answer_0 9 rfl rfl)
theorem dX8_answer_12 : decode cX8_answer 12 = .ok (.ifCond .eq 21, 3) := dk_153 0 21 (dk_at dksX8_answer_0 12 rfl rfl)
theorem dX8_answer_15 : decode cX8_answer 15 = .ok (.iload_n 2, 1) := dk_28 (dk_at dksX8_answer_0 15 rfl rfl)
theorem dX8_answer_16 : decode cX8_answer 16 = .ok (.iconst 0, 1) := dk_3 (dk_at dksX8_answer_0 16 rfl rfl)
theorem dX8_answer_17 : decode cX8_answer 17 = .ok (.aload_n 0, 1) := dk_42 (dk_at dksX8_answer_0 17 rfl rfl)
theorem dX8_answer_18 : decode cX8_answer 18 = .ok (.getfield 478, 3) := dk_180 1 222 (dk_at dksX8_answer_0 18 rfl rfl)
theorem dX8_answer_21 : decode cX8_answer 21 = .ok (.iconst 1, 1) := dk_4 (dk_at dksX8_answer_0 21 rfl rfl)
theorem dX8_answer_22 : decode cX8_answer 22 = .ok (.isub, 1) := dk_100 (dk_at dksX8_answer_0 22 rfl rfl)
theorem dX8_answer_23 : decode cX8_answer 23 = .ok (.invokestatic 216, 3) := dk_184 0 216 (dk_at dksX8_answer_1 0 rfl rfl)
theorem dX8_answer_26 : decode cX8_answer 26 = .ok (.ifCond .eq 7, 3) := dk_153 0 7 (dk_at dksX8_answer_1 3 rfl rfl)
theorem dX8_answer_29 : decode cX8_answer 29 = .ok (.iconst 0, 1) := dk_3 (dk_at dksX8_answer_1 6 rfl rfl)
theorem dX8_answer_30 : decode cX8_answer 30 = .ok (.goto 4, 3) := dk_167 0 4 (dk_at dksX8_answer_1 7 rfl rfl)
theorem dX8_answer_33 : decode cX8_answer 33 = .ok (.iconst 1, 1) := dk_4 (dk_at dksX8_answer_1 10 rfl rfl)
theorem dX8_answer_34 : decode cX8_answer 34 = .ok (.putfield 213, 3) := dk_181 0 213 (dk_at dksX8_answer_1 11 rfl rfl)
theorem dX8_answer_37 : decode cX8_answer 37 = .ok (.aload_n 0, 1) := dk_42 (dk_at dksX8_answer_1 14 rfl rfl)
theorem dX8_answer_38 : decode cX8_answer 38 = .ok (.getfield 213, 3) := dk_180 0 213 (dk_at dksX8_answer_1 15 rfl rfl)
theorem dX8_answer_41 : decode cX8_answer 41 = .ok (.ifCond .le 7, 3) := dk_158 0 7 (dk_at dksX8_answer_1 18 rfl rfl)
theorem dX8_answer_44 : decode cX8_answer 44 = .ok (.iconst 0, 1) := dk_3 (dk_at dksX8_answer_1 21 rfl rfl)
theorem dX8_answer_45 : decode cX8_answer 45 = .ok (.goto 13, 3) := dk_167 0 13 (dk_at dksX8_answer_2 0 rfl rfl)
theorem dX8_answer_48 : decode cX8_answer 48 = .ok (.aload_n 0, 1) := dk_42 (dk_at dksX8_answer_2 3 rfl rfl)
theorem dX8_answer_49 : decode cX8_answer 49 = .ok (.getfield 180, 3) := dk_180 0 180 (dk_at dksX8_answer_2 4 rfl rfl)
theorem dX8_answer_52 : decode cX8_answer 52 = .ok (.iconst 3, 1) := dk_6 (dk_at dksX8_answer_2 7 rfl rfl)
theorem dX8_answer_53 : decode cX8_answer 53 = .ok (.iload_n 1, 1) := dk_27 (dk_at dksX8_answer_2 8 rfl rfl)
theorem dX8_answer_54 : decode cX8_answer 54 = .ok (.imul, 1) := dk_104 (dk_at dksX8_answer_2 9 rfl rfl)
theorem dX8_answer_55 : decode cX8_answer 55 = .ok (.iload_n 2, 1) := dk_28 (dk_at dksX8_answer_2 10 rfl rfl)
theorem dX8_answer_56 : decode cX8_answer 56 = .ok (.iadd, 1) := dk_96 (dk_at dksX8_answer_2 11 rfl rfl)
theorem dX8_answer_57 : decode cX8_answer 57 = .ok (.iaload, 1) := dk_46 (dk_at dksX8_answer_2 12 rfl rfl)
theorem dX8_answer_58 : decode cX8_answer 58 = .ok (.ireturn, 1) := dk_172 (dk_at dksX8_answer_2 13 rfl rfl)
abbrev cX8_missing : ByteArray := prog_20_method_84_code
def yX8_missing : MethodName := ⟨RX8, "missing", "()I"⟩
def dkwX8_missing_0 : List UInt8 := [42, 3, 181, 0, 213, 42, 180, 1, 164, 172]
abbrev dktX8_missing_0 : List UInt8 := dkwX8_missing_0 ++ []
theorem dksX8_missing_0 : cX8_missing.data.toList.drop 0 = dktX8_missing_0 := by decide +kernel
theorem dX8_missing_0 : decode cX8_missing 0 = .ok (.aload_n 0, 1) := dk_42 (dk_at dksX8_missing_0 0 rfl rfl)
theorem dX8_missing_1 : decode cX8_missing 1 = .ok (.iconst 0, 1) := dk_3 (dk_at dksX8_missing_0 1 rfl rfl)
theorem dX8_missing_2 : decode cX8_missing 2 = .ok (.putfield 213, 3) := dk_181 0 213 (dk_at dksX8_missing_0 2 rfl rfl)
theorem dX8_missing_5 : decode cX8_missing 5 = .ok (.aload_n 0, 1) := dk_42 (dk_at dksX8_missing_0 5 rfl rfl)
theorem dX8_missing_6 : decode cX8_missing 6 = .ok (.getfield 420, 3) := dk_180 1 164 (dk_at dksX8_missing_0 6 rfl rfl)
theorem dX8_missing_9 : decode cX8_missing 9 = .ok (.ireturn, 1) := dk_172 (dk_at dksX8_missing_0 9 rfl rfl)
abbrev cX8_claims : ByteArray := prog_20_method_85_code
def yX8_claims : MethodName := ⟨RX8, "claims", "()I"⟩
def dkwX8_claims_0 : List UInt8 := [42, 3, 181, 0, 213, 42, 180, 0, 183, 172]
abbrev dktX8_claims_0 : List UInt8 := dkwX8_claims_0 ++ []
theorem dksX8_claims_0 : cX8_claims.data.toList.drop 0 = dktX8_claims_0 := by decide +kernel
theorem dX8_claims_0 : decode cX8_claims 0 = .ok (.aload_n 0, 1) := dk_42 (dk_at dksX8_claims_0 0 rfl rfl)
theorem dX8_claims_1 : decode cX8_claims 1 = .ok (.iconst 0, 1) := dk_3 (dk_at dksX8_claims_0 1 rfl rfl)
theorem dX8_claims_2 : decode cX8_claims 2 = .ok (.putfield 213, 3) := dk_181 0 213 (dk_at dksX8_claims_0 2 rfl rfl)
theorem dX8_claims_5 : decode cX8_claims 5 = .ok (.aload_n 0, 1) := dk_42 (dk_at dksX8_claims_0 5 rfl rfl)
theorem dX8_claims_6 : decode cX8_claims 6 = .ok (.getfield 183, 3) := dk_180 0 183 (dk_at dksX8_claims_0 6 rfl rfl)
theorem dX8_claims_9 : decode cX8_claims 9 = .ok (.ireturn, 1) := dk_172 (dk_at dksX8_claims_0 9 rfl rfl)
abbrev cX8_cost : ByteArray := prog_20_method_86_code
def yX8_cost : MethodName := ⟨RX8, "cost", "()I"⟩
def dkwX8_cost_0 : List UInt8 := [42, 3, 181, 0, 213, 42, 180, 1, 86, 172]
abbrev dktX8_cost_0 : List UInt8 := dkwX8_cost_0 ++ []
theorem dksX8_cost_0 : cX8_cost.data.toList.drop 0 = dktX8_cost_0 := by decide +kernel
theorem dX8_cost_0 : decode cX8_cost 0 = .ok (.aload_n 0, 1) := dk_42 (dk_at dksX8_cost_0 0 rfl rfl)
theorem dX8_cost_1 : decode cX8_cost 1 = .ok (.iconst 0, 1) := dk_3 (dk_at dksX8_cost_0 1 rfl rfl)
theorem dX8_cost_2 : decode cX8_cost 2 = .ok (.putfield 213, 3) := dk_181 0 213 (dk_at dksX8_cost_0 2 rfl rfl)
theorem dX8_cost_5 : decode cX8_cost 5 = .ok (.aload_n 0, 1) := dk_42 (dk_at dksX8_cost_0 5 rfl rfl)
theorem dX8_cost_6 : decode cX8_cost 6 = .ok (.getfield 342, 3) := dk_180 1 86 (dk_at dksX8_cost_0 6 rfl rfl)
theorem dX8_cost_9 : decode cX8_cost 9 = .ok (.ireturn, 1) := dk_172 (dk_at dksX8_cost_0 9 rfl rfl)
abbrev cX8_attempts : ByteArray := prog_20_method_87_code
def yX8_attempts : MethodName := ⟨RX8, "attempts", "()I"⟩
def dkwX8_attempts_0 : List UInt8 := [42, 3, 181, 0, 213, 42, 180, 1, 80, 172]
abbrev dktX8_attempts_0 : List UInt8 := dkwX8_attempts_0 ++ []
theorem dksX8_attempts_0 : cX8_attempts.data.toList.drop 0 = dktX8_attempts_0 := by decide +kernel
theorem dX8_attempts_0 : decode cX8_attempts 0 = .ok (.aload_n 0, 1) := dk_42 (dk_at dksX8_attempts_0 0 rfl rfl)
theorem dX8_attempts_1 : decode cX8_attempts 1 = .ok (.iconst 0, 1) := dk_3 (dk_at dksX8_attempts_0 1 rfl rfl)
theorem dX8_attempts_2 : decode cX8_attempts 2 = .ok (.putfield 213, 3) := dk_181 0 213 (dk_at dksX8_attempts_0 2 rfl rfl)
theorem dX8_attempts_5 : decode cX8_attempts 5 = .ok (.aload_n 0, 1) := dk_42 (dk_at dksX8_attempts_0 5 rfl rfl)
theorem dX8_attempts_6 : decode cX8_attempts 6 = .ok (.getfield 336, 3) := dk_180 1 80 (dk_at dksX8_attempts_0 6 rfl rfl)
theorem dX8_attempts_9 : decode cX8_attempts 9 = .ok (.ireturn, 1) := dk_172 (dk_at dksX8_attempts_0 9 rfl rfl)
abbrev cX8_shipped : ByteArray := prog_20_method_88_code
def yX8_shipped : MethodName := ⟨RX8, "shipped", "()I"⟩
def dkwX8_shipped_0 : List UInt8 := [42, 3, 181, 0, 213, 42, 180, 1, 108, 172]
abbrev dktX8_shipped_0 : List UInt8 := dkwX8_shipped_0 ++ []
theorem dksX8_shipped_0 : cX8_shipped.data.toList.drop 0 = dktX8_shipped_0 := by decide +kernel
theorem dX8_shipped_0 : decode cX8_shipped 0 = .ok (.aload_n 0, 1) := dk_42 (dk_at dksX8_shipped_0 0 rfl rfl)
theorem dX8_shipped_1 : decode cX8_shipped 1 = .ok (.iconst 0, 1) := dk_3 (dk_at dksX8_shipped_0 1 rfl rfl)
theorem dX8_shipped_2 : decode cX8_shipped 2 = .ok (.putfield 213, 3) := dk_181 0 213 (dk_at dksX8_shipped_0 2 rfl rfl)
theorem dX8_shipped_5 : decode cX8_shipped 5 = .ok (.aload_n 0, 1) := dk_42 (dk_at dksX8_shipped_0 5 rfl rfl)
theorem dX8_shipped_6 : decode cX8_shipped 6 = .ok (.getfield 364, 3) := dk_180 1 108 (dk_at dksX8_shipped_0 6 rfl rfl)
theorem dX8_shipped_9 : decode cX8_shipped 9 = .ok (.ireturn, 1) := dk_172 (dk_at dksX8_shipped_0 9 rfl rfl)
abbrev cX8_taken : ByteArray := prog_20_method_89_code
def yX8_taken : MethodName := ⟨RX8, "taken", "(I)I"⟩
def dkwX8_taken_1 : List UInt8 := [180, 0, 213, 158, 0, 7, 3, 167, 0, 9, 42, 180, 0, 186, 27, 46, 172]
abbrev dktX8_taken_1 : List UInt8 := dkwX8_taken_1 ++ []
def dkwX8_taken_0 : List UInt8 := [42, 27, 3, 42, 180, 1, 167, 4, 100, 184, 0, 216, 153, 0, 7, 3, 167, 0, 4, 4, 181, 0, 213, 42]
abbrev dktX8_taken_0 : List UInt8 := dkwX8_taken_0 ++ dktX8_taken_1
theorem dksX8_taken_0 : cX8_taken.data.toList.drop 0 = dktX8_taken_0 := by decide +kernel
theorem dksX8_taken_1 : cX8_taken.data.toList.drop 24 = dktX8_taken_1 := dk_seg dksX8_taken_0 24 rfl rfl
theorem dX8_taken_0 : decode cX8_taken 0 = .ok (.aload_n 0, 1) := dk_42 (dk_at dksX8_taken_0 0 rfl rfl)
theorem dX8_taken_1 : decode cX8_taken 1 = .ok (.iload_n 1, 1) := dk_27 (dk_at dksX8_taken_0 1 rfl rfl)
theorem dX8_taken_2 : decode cX8_taken 2 = .ok (.iconst 0, 1) := dk_3 (dk_at dksX8_taken_0 2 rfl rfl)
theorem dX8_taken_3 : decode cX8_taken 3 = .ok (.aload_n 0, 1) := dk_42 (dk_at dksX8_taken_0 3 rfl rfl)
theorem dX8_taken_4 : decode cX8_taken 4 = .ok (.getfield 423, 3) := dk_180 1 167 (dk_at dksX8_taken_0 4 rfl rfl)
theorem dX8_taken_7 : decode cX8_taken 7 = .ok (.iconst 1, 1) := dk_4 (dk_at dksX8_taken_0 7 rfl rfl)
theorem dX8_taken_8 : decode cX8_taken 8 = .ok (.isub, 1) := dk_100 (dk_at dksX8_taken_0 8 rfl rfl)
theorem dX8_taken_9 : decode cX8_taken 9 = .ok (.invokestatic 216, 3) := dk_184 0 216 (dk_at dksX8_taken_0 9 rfl rfl)
theorem dX8_taken_12 : decode cX8_taken 12 = .ok (.ifCond .eq 7, 3) := dk_153 0 7 (dk_at dksX8_taken_0 12 rfl rfl)
theorem dX8_taken_15 : decode cX8_taken 15 = .ok (.iconst 0, 1) := dk_3 (dk_at dksX8_taken_0 15 rfl rfl)
theorem dX8_taken_16 : decode cX8_taken 16 = .ok (.goto 4, 3) := dk_167 0 4 (dk_at dksX8_taken_0 16 rfl rfl)
theorem dX8_taken_19 : decode cX8_taken 19 = .ok (.iconst 1, 1) := dk_4 (dk_at dksX8_taken_0 19 rfl rfl)
theorem dX8_taken_20 : decode cX8_taken 20 = .ok (.putfield 213, 3) := dk_181 0 213 (dk_at dksX8_taken_0 20 rfl rfl)
theorem dX8_taken_23 : decode cX8_taken 23 = .ok (.aload_n 0, 1) := dk_42 (dk_at dksX8_taken_0 23 rfl rfl)
theorem dX8_taken_24 : decode cX8_taken 24 = .ok (.getfield 213, 3) := dk_180 0 213 (dk_at dksX8_taken_1 0 rfl rfl)
theorem dX8_taken_27 : decode cX8_taken 27 = .ok (.ifCond .le 7, 3) := dk_158 0 7 (dk_at dksX8_taken_1 3 rfl rfl)
theorem dX8_taken_30 : decode cX8_taken 30 = .ok (.iconst 0, 1) := dk_3 (dk_at dksX8_taken_1 6 rfl rfl)
theorem dX8_taken_31 : decode cX8_taken 31 = .ok (.goto 9, 3) := dk_167 0 9 (dk_at dksX8_taken_1 7 rfl rfl)
theorem dX8_taken_34 : decode cX8_taken 34 = .ok (.aload_n 0, 1) := dk_42 (dk_at dksX8_taken_1 10 rfl rfl)
theorem dX8_taken_35 : decode cX8_taken 35 = .ok (.getfield 186, 3) := dk_180 0 186 (dk_at dksX8_taken_1 11 rfl rfl)
theorem dX8_taken_38 : decode cX8_taken 38 = .ok (.iload_n 1, 1) := dk_27 (dk_at dksX8_taken_1 14 rfl rfl)
theorem dX8_taken_39 : decode cX8_taken 39 = .ok (.iaload, 1) := dk_46 (dk_at dksX8_taken_1 15 rfl rfl)
theorem dX8_taken_40 : decode cX8_taken 40 = .ok (.ireturn, 1) := dk_172 (dk_at dksX8_taken_1 16 rfl rfl)
abbrev cX8_size : ByteArray := prog_20_method_90_code
def yX8_size : MethodName := ⟨RX8, "size", "(I)I"⟩
def dkwX8_size_1 : List UInt8 := [167, 0, 9, 42, 180, 0, 62, 27, 46, 172]
abbrev dktX8_size_1 : List UInt8 := dkwX8_size_1 ++ []
def dkwX8_size_0 : List UInt8 := [42, 27, 184, 1, 14, 153, 0, 7, 3, 167, 0, 4, 4, 181, 0, 213, 42, 180, 0, 213, 158, 0, 7, 3]
abbrev dktX8_size_0 : List UInt8 := dkwX8_size_0 ++ dktX8_size_1
theorem dksX8_size_0 : cX8_size.data.toList.drop 0 = dktX8_size_0 := by decide +kernel
theorem dksX8_size_1 : cX8_size.data.toList.drop 24 = dktX8_size_1 := dk_seg dksX8_size_0 24 rfl rfl
theorem dX8_size_0 : decode cX8_size 0 = .ok (.aload_n 0, 1) := dk_42 (dk_at dksX8_size_0 0 rfl rfl)
theorem dX8_size_1 : decode cX8_size 1 = .ok (.iload_n 1, 1) := dk_27 (dk_at dksX8_size_0 1 rfl rfl)
theorem dX8_size_2 : decode cX8_size 2 = .ok (.invokestatic 270, 3) := dk_184 1 14 (dk_at dksX8_size_0 2 rfl rfl)
theorem dX8_size_5 : decode cX8_size 5 = .ok (.ifCond .eq 7, 3) := dk_153 0 7 (dk_at dksX8_size_0 5 rfl rfl)
theorem dX8_size_8 : decode cX8_size 8 = .ok (.iconst 0, 1) := dk_3 (dk_at dksX8_size_0 8 rfl rfl)
theorem dX8_size_9 : decode cX8_size 9 = .ok (.goto 4, 3) := dk_167 0 4 (dk_at dksX8_size_0 9 rfl rfl)
theorem dX8_size_12 : decode cX8_size 12 = .ok (.iconst 1, 1) := dk_4 (dk_at dksX8_size_0 12 rfl rfl)
theorem dX8_size_13 : decode cX8_size 13 = .ok (.putfield 213, 3) := dk_181 0 213 (dk_at dksX8_size_0 13 rfl rfl)
theorem dX8_size_16 : decode cX8_size 16 = .ok (.aload_n 0, 1) := dk_42 (dk_at dksX8_size_0 16 rfl rfl)
theorem dX8_size_17 : decode cX8_size 17 = .ok (.getfield 213, 3) := dk_180 0 213 (dk_at dksX8_size_0 17 rfl rfl)
theorem dX8_size_20 : decode cX8_size 20 = .ok (.ifCond .le 7, 3) := dk_158 0 7 (dk_at dksX8_size_0 20 rfl rfl)
theorem dX8_size_23 : decode cX8_size 23 = .ok (.iconst 0, 1) := dk_3 (dk_at dksX8_size_0 23 rfl rfl)
theorem dX8_size_24 : decode cX8_size 24 = .ok (.goto 9, 3) := dk_167 0 9 (dk_at dksX8_size_1 0 rfl rfl)
theorem dX8_size_27 : decode cX8_size 27 = .ok (.aload_n 0, 1) := dk_42 (dk_at dksX8_size_1 3 rfl rfl)
theorem dX8_size_28 : decode cX8_size 28 = .ok (.getfield 62, 3) := dk_180 0 62 (dk_at dksX8_size_1 4 rfl rfl)
theorem dX8_size_31 : decode cX8_size 31 = .ok (.iload_n 1, 1) := dk_27 (dk_at dksX8_size_1 7 rfl rfl)
theorem dX8_size_32 : decode cX8_size 32 = .ok (.iaload, 1) := dk_46 (dk_at dksX8_size_1 8 rfl rfl)
theorem dX8_size_33 : decode cX8_size 33 = .ok (.ireturn, 1) := dk_172 (dk_at dksX8_size_1 9 rfl rfl)
abbrev cX8_entries : ByteArray := prog_20_method_91_code
def yX8_entries : MethodName := ⟨RX8, "entries", "()I"⟩
def dkwX8_entries_0 : List UInt8 := [42, 3, 181, 0, 213, 42, 180, 0, 232, 172]
abbrev dktX8_entries_0 : List UInt8 := dkwX8_entries_0 ++ []
theorem dksX8_entries_0 : cX8_entries.data.toList.drop 0 = dktX8_entries_0 := by decide +kernel
theorem dX8_entries_0 : decode cX8_entries 0 = .ok (.aload_n 0, 1) := dk_42 (dk_at dksX8_entries_0 0 rfl rfl)
theorem dX8_entries_1 : decode cX8_entries 1 = .ok (.iconst 0, 1) := dk_3 (dk_at dksX8_entries_0 1 rfl rfl)
theorem dX8_entries_2 : decode cX8_entries 2 = .ok (.putfield 213, 3) := dk_181 0 213 (dk_at dksX8_entries_0 2 rfl rfl)
theorem dX8_entries_5 : decode cX8_entries 5 = .ok (.aload_n 0, 1) := dk_42 (dk_at dksX8_entries_0 5 rfl rfl)
theorem dX8_entries_6 : decode cX8_entries 6 = .ok (.getfield 232, 3) := dk_180 0 232 (dk_at dksX8_entries_0 6 rfl rfl)
theorem dX8_entries_9 : decode cX8_entries 9 = .ok (.ireturn, 1) := dk_172 (dk_at dksX8_entries_0 9 rfl rfl)
abbrev cX8_answersAnew : ByteArray := prog_20_method_92_code
def yX8_answersAnew : MethodName := ⟨RX8, "answersAnew", "()I"⟩
def dkwX8_answersAnew_1 : List UInt8 := [172, 42, 3, 182, 1, 215, 42, 180, 1, 173, 172]
abbrev dktX8_answersAnew_1 : List UInt8 := dkwX8_answersAnew_1 ++ []
def dkwX8_answersAnew_0 : List UInt8 := [42, 42, 182, 1, 205, 153, 0, 7, 3, 167, 0, 4, 4, 181, 0, 213, 42, 180, 0, 213, 158, 0, 5, 3]
abbrev dktX8_answersAnew_0 : List UInt8 := dkwX8_answersAnew_0 ++ dktX8_answersAnew_1
theorem dksX8_answersAnew_0 : cX8_answersAnew.data.toList.drop 0 = dktX8_answersAnew_0 := by decide +kernel
theorem dksX8_answersAnew_1 : cX8_answersAnew.data.toList.drop 24 = dktX8_answersAnew_1 := dk_seg dksX8_answersAnew_0 24 rfl rfl
theorem dX8_answersAnew_0 : decode cX8_answersAnew 0 = .ok (.aload_n 0, 1) := dk_42 (dk_at dksX8_answersAnew_0 0 rfl rfl)
theorem dX8_answersAnew_1 : decode cX8_answersAnew 1 = .ok (.aload_n 0, 1) := dk_42 (dk_at dksX8_answersAnew_0 1 rfl rfl)
theorem dX8_answersAnew_2 : decode cX8_answersAnew 2 = .ok (.invokevirtual 461, 3) := dk_182 1 205 (dk_at dksX8_answersAnew_0 2 rfl rfl)
theorem dX8_answersAnew_5 : decode cX8_answersAnew 5 = .ok (.ifCond .eq 7, 3) := dk_153 0 7 (dk_at dksX8_answersAnew_0 5 rfl rfl)
theorem dX8_answersAnew_8 : decode cX8_answersAnew 8 = .ok (.iconst 0, 1) := dk_3 (dk_at dksX8_answersAnew_0 8 rfl rfl)
theorem dX8_answersAnew_9 : decode cX8_answersAnew 9 = .ok (.goto 4, 3) := dk_167 0 4 (dk_at dksX8_answersAnew_0 9 rfl rfl)
theorem dX8_answersAnew_12 : decode cX8_answersAnew 12 = .ok (.iconst 1, 1) := dk_4 (dk_at dksX8_answersAnew_0 12 rfl rfl)
theorem dX8_answersAnew_13 : decode cX8_answersAnew 13 = .ok (.putfield 213, 3) := dk_181 0 213 (dk_at dksX8_answersAnew_0 13 rfl rfl)
theorem dX8_answersAnew_16 : decode cX8_answersAnew 16 = .ok (.aload_n 0, 1) := dk_42 (dk_at dksX8_answersAnew_0 16 rfl rfl)
theorem dX8_answersAnew_17 : decode cX8_answersAnew 17 = .ok (.getfield 213, 3) := dk_180 0 213 (dk_at dksX8_answersAnew_0 17 rfl rfl)
theorem dX8_answersAnew_20 : decode cX8_answersAnew 20 = .ok (.ifCond .le 5, 3) := dk_158 0 5 (dk_at dksX8_answersAnew_0 20 rfl rfl)
theorem dX8_answersAnew_23 : decode cX8_answersAnew 23 = .ok (.iconst 0, 1) := dk_3 (dk_at dksX8_answersAnew_0 23 rfl rfl)
theorem dX8_answersAnew_24 : decode cX8_answersAnew 24 = .ok (.ireturn, 1) := dk_172 (dk_at dksX8_answersAnew_1 0 rfl rfl)
theorem dX8_answersAnew_25 : decode cX8_answersAnew 25 = .ok (.aload_n 0, 1) := dk_42 (dk_at dksX8_answersAnew_1 1 rfl rfl)
theorem dX8_answersAnew_26 : decode cX8_answersAnew 26 = .ok (.iconst 0, 1) := dk_3 (dk_at dksX8_answersAnew_1 2 rfl rfl)
theorem dX8_answersAnew_27 : decode cX8_answersAnew 27 = .ok (.invokevirtual 471, 3) := dk_182 1 215 (dk_at dksX8_answersAnew_1 3 rfl rfl)
theorem dX8_answersAnew_30 : decode cX8_answersAnew 30 = .ok (.aload_n 0, 1) := dk_42 (dk_at dksX8_answersAnew_1 6 rfl rfl)
theorem dX8_answersAnew_31 : decode cX8_answersAnew 31 = .ok (.getfield 429, 3) := dk_180 1 173 (dk_at dksX8_answersAnew_1 7 rfl rfl)
theorem dX8_answersAnew_34 : decode cX8_answersAnew 34 = .ok (.ireturn, 1) := dk_172 (dk_at dksX8_answersAnew_1 10 rfl rfl)
abbrev cX8_answerAnew : ByteArray := prog_20_method_93_code
def yX8_answerAnew : MethodName := ⟨RX8, "answerAnew", "(II)I"⟩
def dkwX8_answerAnew_3 : List UInt8 := [158, 0, 7, 3, 167, 0, 13, 42, 180, 0, 168, 6, 27, 104, 28, 96, 46, 172]
abbrev dktX8_answerAnew_3 : List UInt8 := dkwX8_answerAnew_3 ++ []
def dkwX8_answerAnew_2 : List UInt8 := [180, 1, 186, 4, 100, 184, 0, 216, 153, 0, 7, 3, 167, 0, 4, 5, 181, 0, 213, 42, 180, 0, 213]
abbrev dktX8_answerAnew_2 : List UInt8 := dkwX8_answerAnew_2 ++ dktX8_answerAnew_3
def dkwX8_answerAnew_1 : List UInt8 := [172, 42, 3, 182, 1, 215, 42, 27, 3, 42, 180, 1, 173, 4, 100, 184, 0, 216, 153, 0, 21, 28, 3, 42]
abbrev dktX8_answerAnew_1 : List UInt8 := dkwX8_answerAnew_1 ++ dktX8_answerAnew_2
def dkwX8_answerAnew_0 : List UInt8 := [42, 42, 182, 1, 205, 153, 0, 7, 3, 167, 0, 4, 4, 181, 0, 213, 42, 180, 0, 213, 158, 0, 5, 3]
abbrev dktX8_answerAnew_0 : List UInt8 := dkwX8_answerAnew_0 ++ dktX8_answerAnew_1
theorem dksX8_answerAnew_0 : cX8_answerAnew.data.toList.drop 0 = dktX8_answerAnew_0 := by decide +kernel
theorem dksX8_answerAnew_1 : cX8_answerAnew.data.toList.drop 24 = dktX8_answerAnew_1 := dk_seg dksX8_answerAnew_0 24 rfl rfl
theorem dksX8_answerAnew_2 : cX8_answerAnew.data.toList.drop 48 = dktX8_answerAnew_2 := dk_seg dksX8_answerAnew_1 24 rfl rfl
theorem dksX8_answerAnew_3 : cX8_answerAnew.data.toList.drop 71 = dktX8_answerAnew_3 := dk_seg dksX8_answerAnew_2 23 rfl rfl
theorem dX8_answerAnew_0 : decode cX8_answerAnew 0 = .ok (.aload_n 0, 1) := dk_42 (dk_at dksX8_answerAnew_0 0 rfl rfl)
theorem dX8_answerAnew_1 : decode cX8_answerAnew 1 = .ok (.aload_n 0, 1) := dk_42 (dk_at dksX8_answerAnew_0 1 rfl rfl)
theorem dX8_answerAnew_2 : decode cX8_answerAnew 2 = .ok (.invokevirtual 461, 3) := dk_182 1 205 (dk_at dksX8_answerAnew_0 2 rfl rfl)
theorem dX8_answerAnew_5 : decode cX8_answerAnew 5 = .ok (.ifCond .eq 7, 3) := dk_153 0 7 (dk_at dksX8_answerAnew_0 5 rfl rfl)
theorem dX8_answerAnew_8 : decode cX8_answerAnew 8 = .ok (.iconst 0, 1) := dk_3 (dk_at dksX8_answerAnew_0 8 rfl rfl)
theorem dX8_answerAnew_9 : decode cX8_answerAnew 9 = .ok (.goto 4, 3) := dk_167 0 4 (dk_at dksX8_answerAnew_0 9 rfl rfl)
theorem dX8_answerAnew_12 : decode cX8_answerAnew 12 = .ok (.iconst 1, 1) := dk_4 (dk_at dksX8_answerAnew_0 12 rfl rfl)
theorem dX8_answerAnew_13 : decode cX8_answerAnew 13 = .ok (.putfield 213, 3) := dk_181 0 213 (dk_at dksX8_answerAnew_0 13 rfl rfl)
theorem dX8_answerAnew_16 : decode cX8_answerAnew 16 = .ok (.aload_n 0, 1) := dk_42 (dk_at dksX8_answerAnew_0 16 rfl rfl)
theorem dX8_answerAnew_17 : decode cX8_answerAnew 17 = .ok (.getfield 213, 3) := dk_180 0 213 (dk_at dksX8_answerAnew_0 17 rfl rfl)
theorem dX8_answerAnew_20 : decode cX8_answerAnew 20 = .ok (.ifCond .le 5, 3) := dk_158 0 5 (dk_at dksX8_answerAnew_0 20 rfl rfl)
theorem dX8_answerAnew_23 : decode cX8_answerAnew 23 = .ok (.iconst 0, 1) := dk_3 (dk_at dksX8_answerAnew_0 23 rfl rfl)
theorem dX8_answerAnew_24 : decode cX8_answerAnew 24 = .ok (.ireturn, 1) := dk_172 (dk_at dksX8_answerAnew_1 0 rfl rfl)
theorem dX8_answerAnew_25 : decode cX8_answerAnew 25 = .ok (.aload_n 0, 1) := dk_42 (dk_at dksX8_answerAnew_1 1 rfl rfl)
theorem dX8_answerAnew_26 : decode cX8_answerAnew 26 = .ok (.iconst 0, 1) := dk_3 (dk_at dksX8_answerAnew_1 2 rfl rfl)
theorem dX8_answerAnew_27 : decode cX8_answerAnew 27 = .ok (.invokevirtual 471, 3) := dk_182 1 215 (dk_at dksX8_answerAnew_1 3 rfl rfl)
theorem dX8_answerAnew_30 : decode cX8_answerAnew 30 = .ok (.aload_n 0, 1) := dk_42 (dk_at dksX8_answerAnew_1 6 rfl rfl)
theorem dX8_answerAnew_31 : decode cX8_answerAnew 31 = .ok (.iload_n 1, 1) := dk_27 (dk_at dksX8_answerAnew_1 7 rfl rfl)
theorem dX8_answerAnew_32 : decode cX8_answerAnew 32 = .ok (.iconst 0, 1) := dk_3 (dk_at dksX8_answerAnew_1 8 rfl rfl)
theorem dX8_answerAnew_33 : decode cX8_answerAnew 33 = .ok (.aload_n 0, 1) := dk_42 (dk_at dksX8_answerAnew_1 9 rfl rfl)
theorem dX8_answerAnew_34 : decode cX8_answerAnew 34 = .ok (.getfield 429, 3) := dk_180 1 173 (dk_at dksX8_answerAnew_1 10 rfl rfl)
theorem dX8_answerAnew_37 : decode cX8_answerAnew 37 = .ok (.iconst 1, 1) := dk_4 (dk_at dksX8_answerAnew_1 13 rfl rfl)
theorem dX8_answerAnew_38 : decode cX8_answerAnew 38 = .ok (.isub, 1) := dk_100 (dk_at dksX8_answerAnew_1 14 rfl rfl)
theorem dX8_answerAnew_39 : decode cX8_answerAnew 39 = .ok (.invokestatic 216, 3) := dk_184 0 216 (dk_at dksX8_answerAnew_1 15 rfl rfl)
theorem dX8_answerAnew_42 : decode cX8_answerAnew 42 = .ok (.ifCond .eq 21, 3) := dk_153 0 21 (dk_at dksX8_answerAnew_1 18 rfl rfl)
theorem dX8_answerAnew_45 : decode cX8_answerAnew 45 = .ok (.iload_n 2, 1) := dk_28 (dk_at dksX8_answerAnew_1 21 rfl rfl)
theorem dX8_answerAnew_46 : decode cX8_answerAnew 46 = .ok (.iconst 0, 1) := dk_3 (dk_at dksX8_answerAnew_1 22 rfl rfl)
theorem dX8_answerAnew_47 : decode cX8_answerAnew 47 = .ok (.aload_n 0, 1) := dk_42 (dk_at dksX8_answerAnew_1 23 rfl rfl)
theorem dX8_answerAnew_48 : decode cX8_answerAnew 48 = .ok (.getfield 442, 3) := dk_180 1 186 (dk_at dksX8_answerAnew_2 0 rfl rfl)
theorem dX8_answerAnew_51 : decode cX8_answerAnew 51 = .ok (.iconst 1, 1) := dk_4 (dk_at dksX8_answerAnew_2 3 rfl rfl)
theorem dX8_answerAnew_52 : decode cX8_answerAnew 52 = .ok (.isub, 1) := dk_100 (dk_at dksX8_answerAnew_2 4 rfl rfl)
theorem dX8_answerAnew_53 : decode cX8_answerAnew 53 = .ok (.invokestatic 216, 3) := dk_184 0 216 (dk_at dksX8_answerAnew_2 5 rfl rfl)
theorem dX8_answerAnew_56 : decode cX8_answerAnew 56 = .ok (.ifCond .eq 7, 3) := dk_153 0 7 (dk_at dksX8_answerAnew_2 8 rfl rfl)
theorem dX8_answerAnew_59 : decode cX8_answerAnew 59 = .ok (.iconst 0, 1) := dk_3 (dk_at dksX8_answerAnew_2 11 rfl rfl)
theorem dX8_answerAnew_60 : decode cX8_answerAnew 60 = .ok (.goto 4, 3) := dk_167 0 4 (dk_at dksX8_answerAnew_2 12 rfl rfl)
theorem dX8_answerAnew_63 : decode cX8_answerAnew 63 = .ok (.iconst 2, 1) := dk_5 (dk_at dksX8_answerAnew_2 15 rfl rfl)
theorem dX8_answerAnew_64 : decode cX8_answerAnew 64 = .ok (.putfield 213, 3) := dk_181 0 213 (dk_at dksX8_answerAnew_2 16 rfl rfl)
theorem dX8_answerAnew_67 : decode cX8_answerAnew 67 = .ok (.aload_n 0, 1) := dk_42 (dk_at dksX8_answerAnew_2 19 rfl rfl)
theorem dX8_answerAnew_68 : decode cX8_answerAnew 68 = .ok (.getfield 213, 3) := dk_180 0 213 (dk_at dksX8_answerAnew_2 20 rfl rfl)
theorem dX8_answerAnew_71 : decode cX8_answerAnew 71 = .ok (.ifCond .le 7, 3) := dk_158 0 7 (dk_at dksX8_answerAnew_3 0 rfl rfl)
theorem dX8_answerAnew_74 : decode cX8_answerAnew 74 = .ok (.iconst 0, 1) := dk_3 (dk_at dksX8_answerAnew_3 3 rfl rfl)
theorem dX8_answerAnew_75 : decode cX8_answerAnew 75 = .ok (.goto 13, 3) := dk_167 0 13 (dk_at dksX8_answerAnew_3 4 rfl rfl)
theorem dX8_answerAnew_78 : decode cX8_answerAnew 78 = .ok (.aload_n 0, 1) := dk_42 (dk_at dksX8_answerAnew_3 7 rfl rfl)
theorem dX8_answerAnew_79 : decode cX8_answerAnew 79 = .ok (.getfield 168, 3) := dk_180 0 168 (dk_at dksX8_answerAnew_3 8 rfl rfl)
theorem dX8_answerAnew_82 : decode cX8_answerAnew 82 = .ok (.iconst 3, 1) := dk_6 (dk_at dksX8_answerAnew_3 11 rfl rfl)
theorem dX8_answerAnew_83 : decode cX8_answerAnew 83 = .ok (.iload_n 1, 1) := dk_27 (dk_at dksX8_answerAnew_3 12 rfl rfl)
theorem dX8_answerAnew_84 : decode cX8_answerAnew 84 = .ok (.imul, 1) := dk_104 (dk_at dksX8_answerAnew_3 13 rfl rfl)
theorem dX8_answerAnew_85 : decode cX8_answerAnew 85 = .ok (.iload_n 2, 1) := dk_28 (dk_at dksX8_answerAnew_3 14 rfl rfl)
theorem dX8_answerAnew_86 : decode cX8_answerAnew 86 = .ok (.iadd, 1) := dk_96 (dk_at dksX8_answerAnew_3 15 rfl rfl)
theorem dX8_answerAnew_87 : decode cX8_answerAnew 87 = .ok (.iaload, 1) := dk_46 (dk_at dksX8_answerAnew_3 16 rfl rfl)
theorem dX8_answerAnew_88 : decode cX8_answerAnew 88 = .ok (.ireturn, 1) := dk_172 (dk_at dksX8_answerAnew_3 17 rfl rfl)
abbrev cX8_step : ByteArray := prog_20_method_94_code
def yX8_step : MethodName := ⟨RX8, "step", "(IIIIII)I"⟩
def dkwX8_step_7 : List UInt8 := [172]
abbrev dktX8_step_7 : List UInt8 := dkwX8_step_7 ++ []
def dkwX8_step_6 : List UInt8 := [180, 0, 204, 42, 180, 1, 228, 21, 6, 79, 42, 89, 180, 1, 228, 4, 96, 181, 1, 228, 42, 180, 1, 228]
abbrev dktX8_step_6 : List UInt8 := dkwX8_step_6 ++ dktX8_step_7
def dkwX8_step_5 : List UInt8 := [79, 42, 180, 0, 198, 42, 180, 1, 228, 21, 4, 79, 42, 180, 0, 201, 42, 180, 1, 228, 21, 5, 79, 42]
abbrev dktX8_step_5 : List UInt8 := dkwX8_step_5 ++ dktX8_step_6
def dkwX8_step_4 : List UInt8 := [180, 1, 228, 27, 79, 42, 180, 0, 192, 42, 180, 1, 228, 28, 79, 42, 180, 0, 195, 42, 180, 1, 228, 29]
abbrev dktX8_step_4 : List UInt8 := dkwX8_step_4 ++ dktX8_step_5
def dkwX8_step_3 : List UInt8 := [6, 167, 0, 4, 3, 181, 0, 213, 42, 180, 0, 213, 158, 0, 5, 3, 172, 42, 180, 0, 189, 42]
abbrev dktX8_step_3 : List UInt8 := dkwX8_step_3 ++ dktX8_step_4
def dkwX8_step_2 : List UInt8 := [154, 0, 7, 4, 167, 0, 25, 21, 7, 154, 0, 7, 5, 167, 0, 16, 42, 180, 1, 228, 7, 160, 0, 7]
abbrev dktX8_step_2 : List UInt8 := dkwX8_step_2 ++ dktX8_step_3
def dkwX8_step_1 : List UInt8 := [21, 4, 154, 0, 12, 21, 5, 154, 0, 7, 4, 167, 0, 4, 3, 54, 7, 42, 28, 184, 1, 14]
abbrev dktX8_step_1 : List UInt8 := dkwX8_step_1 ++ dktX8_step_2
def dkwX8_step_0 : List UInt8 := [27, 3, 5, 184, 0, 216, 153, 0, 31, 27, 153, 0, 8, 21, 6, 154, 0, 22, 27, 5, 160, 0, 13]
abbrev dktX8_step_0 : List UInt8 := dkwX8_step_0 ++ dktX8_step_1
theorem dksX8_step_0 : cX8_step.data.toList.drop 0 = dktX8_step_0 := by decide +kernel
theorem dksX8_step_1 : cX8_step.data.toList.drop 23 = dktX8_step_1 := dk_seg dksX8_step_0 23 rfl rfl
theorem dksX8_step_2 : cX8_step.data.toList.drop 45 = dktX8_step_2 := dk_seg dksX8_step_1 22 rfl rfl
theorem dksX8_step_3 : cX8_step.data.toList.drop 69 = dktX8_step_3 := dk_seg dksX8_step_2 24 rfl rfl
theorem dksX8_step_4 : cX8_step.data.toList.drop 91 = dktX8_step_4 := dk_seg dksX8_step_3 22 rfl rfl
theorem dksX8_step_5 : cX8_step.data.toList.drop 115 = dktX8_step_5 := dk_seg dksX8_step_4 24 rfl rfl
theorem dksX8_step_6 : cX8_step.data.toList.drop 139 = dktX8_step_6 := dk_seg dksX8_step_5 24 rfl rfl
theorem dksX8_step_7 : cX8_step.data.toList.drop 163 = dktX8_step_7 := dk_seg dksX8_step_6 24 rfl rfl
theorem dX8_step_0 : decode cX8_step 0 = .ok (.iload_n 1, 1) := dk_27 (dk_at dksX8_step_0 0 rfl rfl)
theorem dX8_step_1 : decode cX8_step 1 = .ok (.iconst 0, 1) := dk_3 (dk_at dksX8_step_0 1 rfl rfl)
theorem dX8_step_2 : decode cX8_step 2 = .ok (.iconst 2, 1) := dk_5 (dk_at dksX8_step_0 2 rfl rfl)
theorem dX8_step_3 : decode cX8_step 3 = .ok (.invokestatic 216, 3) := dk_184 0 216 (dk_at dksX8_step_0 3 rfl rfl)
theorem dX8_step_6 : decode cX8_step 6 = .ok (.ifCond .eq 31, 3) := dk_153 0 31 (dk_at dksX8_step_0 6 rfl rfl)
theorem dX8_step_9 : decode cX8_step 9 = .ok (.iload_n 1, 1) := dk_27 (dk_at dksX8_step_0 9 rfl rfl)
theorem dX8_step_10 : decode cX8_step 10 = .ok (.ifCond .eq 8, 3) := dk_153 0 8 (dk_at dksX8_step_0 10 rfl rfl)
theorem dX8_step_13 : decode cX8_step 13 = .ok (.iload 6, 2) := dk_21 6 (dk_at dksX8_step_0 13 rfl rfl)
theorem dX8_step_15 : decode cX8_step 15 = .ok (.ifCond .ne 22, 3) := dk_154 0 22 (dk_at dksX8_step_0 15 rfl rfl)
theorem dX8_step_18 : decode cX8_step 18 = .ok (.iload_n 1, 1) := dk_27 (dk_at dksX8_step_0 18 rfl rfl)
theorem dX8_step_19 : decode cX8_step 19 = .ok (.iconst 2, 1) := dk_5 (dk_at dksX8_step_0 19 rfl rfl)
theorem dX8_step_20 : decode cX8_step 20 = .ok (.if_icmp .ne 13, 3) := dk_160 0 13 (dk_at dksX8_step_0 20 rfl rfl)
theorem dX8_step_23 : decode cX8_step 23 = .ok (.iload 4, 2) := dk_21 4 (dk_at dksX8_step_1 0 rfl rfl)
theorem dX8_step_25 : decode cX8_step 25 = .ok (.ifCond .ne 12, 3) := dk_154 0 12 (dk_at dksX8_step_1 2 rfl rfl)
theorem dX8_step_28 : decode cX8_step 28 = .ok (.iload 5, 2) := dk_21 5 (dk_at dksX8_step_1 5 rfl rfl)
theorem dX8_step_30 : decode cX8_step 30 = .ok (.ifCond .ne 7, 3) := dk_154 0 7 (dk_at dksX8_step_1 7 rfl rfl)
theorem dX8_step_33 : decode cX8_step 33 = .ok (.iconst 1, 1) := dk_4 (dk_at dksX8_step_1 10 rfl rfl)
theorem dX8_step_34 : decode cX8_step 34 = .ok (.goto 4, 3) := dk_167 0 4 (dk_at dksX8_step_1 11 rfl rfl)
theorem dX8_step_37 : decode cX8_step 37 = .ok (.iconst 0, 1) := dk_3 (dk_at dksX8_step_1 14 rfl rfl)
theorem dX8_step_38 : decode cX8_step 38 = .ok (.istore 7, 2) := dk_54 7 (dk_at dksX8_step_1 15 rfl rfl)
theorem dX8_step_40 : decode cX8_step 40 = .ok (.aload_n 0, 1) := dk_42 (dk_at dksX8_step_1 17 rfl rfl)
theorem dX8_step_41 : decode cX8_step 41 = .ok (.iload_n 2, 1) := dk_28 (dk_at dksX8_step_1 18 rfl rfl)
theorem dX8_step_42 : decode cX8_step 42 = .ok (.invokestatic 270, 3) := dk_184 1 14 (dk_at dksX8_step_1 19 rfl rfl)
theorem dX8_step_45 : decode cX8_step 45 = .ok (.ifCond .ne 7, 3) := dk_154 0 7 (dk_at dksX8_step_2 0 rfl rfl)
theorem dX8_step_48 : decode cX8_step 48 = .ok (.iconst 1, 1) := dk_4 (dk_at dksX8_step_2 3 rfl rfl)
theorem dX8_step_49 : decode cX8_step 49 = .ok (.goto 25, 3) := dk_167 0 25 (dk_at dksX8_step_2 4 rfl rfl)
theorem dX8_step_52 : decode cX8_step 52 = .ok (.iload 7, 2) := dk_21 7 (dk_at dksX8_step_2 7 rfl rfl)
theorem dX8_step_54 : decode cX8_step 54 = .ok (.ifCond .ne 7, 3) := dk_154 0 7 (dk_at dksX8_step_2 9 rfl rfl)
theorem dX8_step_57 : decode cX8_step 57 = .ok (.iconst 2, 1) := dk_5 (dk_at dksX8_step_2 12 rfl rfl)
theorem dX8_step_58 : decode cX8_step 58 = .ok (.goto 16, 3) := dk_167 0 16 (dk_at dksX8_step_2 13 rfl rfl)
theorem dX8_step_61 : decode cX8_step 61 = .ok (.aload_n 0, 1) := dk_42 (dk_at dksX8_step_2 16 rfl rfl)
theorem dX8_step_62 : decode cX8_step 62 = .ok (.getfield 484, 3) := dk_180 1 228 (dk_at dksX8_step_2 17 rfl rfl)
theorem dX8_step_65 : decode cX8_step 65 = .ok (.iconst 4, 1) := dk_7 (dk_at dksX8_step_2 20 rfl rfl)
theorem dX8_step_66 : decode cX8_step 66 = .ok (.if_icmp .ne 7, 3) := dk_160 0 7 (dk_at dksX8_step_2 21 rfl rfl)
theorem dX8_step_69 : decode cX8_step 69 = .ok (.iconst 3, 1) := dk_6 (dk_at dksX8_step_3 0 rfl rfl)
theorem dX8_step_70 : decode cX8_step 70 = .ok (.goto 4, 3) := dk_167 0 4 (dk_at dksX8_step_3 1 rfl rfl)
theorem dX8_step_73 : decode cX8_step 73 = .ok (.iconst 0, 1) := dk_3 (dk_at dksX8_step_3 4 rfl rfl)
theorem dX8_step_74 : decode cX8_step 74 = .ok (.putfield 213, 3) := dk_181 0 213 (dk_at dksX8_step_3 5 rfl rfl)
theorem dX8_step_77 : decode cX8_step 77 = .ok (.aload_n 0, 1) := dk_42 (dk_at dksX8_step_3 8 rfl rfl)
theorem dX8_step_78 : decode cX8_step 78 = .ok (.getfield 213, 3) := dk_180 0 213 (dk_at dksX8_step_3 9 rfl rfl)
theorem dX8_step_81 : decode cX8_step 81 = .ok (.ifCond .le 5, 3) := dk_158 0 5 (dk_at dksX8_step_3 12 rfl rfl)
theorem dX8_step_84 : decode cX8_step 84 = .ok (.iconst 0, 1) := dk_3 (dk_at dksX8_step_3 15 rfl rfl)
theorem dX8_step_85 : decode cX8_step 85 = .ok (.ireturn, 1) := dk_172 (dk_at dksX8_step_3 16 rfl rfl)
theorem dX8_step_86 : decode cX8_step 86 = .ok (.aload_n 0, 1) := dk_42 (dk_at dksX8_step_3 17 rfl rfl)
theorem dX8_step_87 : decode cX8_step 87 = .ok (.getfield 189, 3) := dk_180 0 189 (dk_at dksX8_step_3 18 rfl rfl)
theorem dX8_step_90 : decode cX8_step 90 = .ok (.aload_n 0, 1) := dk_42 (dk_at dksX8_step_3 21 rfl rfl)
theorem dX8_step_91 : decode cX8_step 91 = .ok (.getfield 484, 3) := dk_180 1 228 (dk_at dksX8_step_4 0 rfl rfl)
theorem dX8_step_94 : decode cX8_step 94 = .ok (.iload_n 1, 1) := dk_27 (dk_at dksX8_step_4 3 rfl rfl)
theorem dX8_step_95 : decode cX8_step 95 = .ok (.iastore, 1) := dk_79 (dk_at dksX8_step_4 4 rfl rfl)
theorem dX8_step_96 : decode cX8_step 96 = .ok (.aload_n 0, 1) := dk_42 (dk_at dksX8_step_4 5 rfl rfl)
theorem dX8_step_97 : decode cX8_step 97 = .ok (.getfield 192, 3) := dk_180 0 192 (dk_at dksX8_step_4 6 rfl rfl)
theorem dX8_step_100 : decode cX8_step 100 = .ok (.aload_n 0, 1) := dk_42 (dk_at dksX8_step_4 9 rfl rfl)
theorem dX8_step_101 : decode cX8_step 101 = .ok (.getfield 484, 3) := dk_180 1 228 (dk_at dksX8_step_4 10 rfl rfl)
theorem dX8_step_104 : decode cX8_step 104 = .ok (.iload_n 2, 1) := dk_28 (dk_at dksX8_step_4 13 rfl rfl)
theorem dX8_step_105 : decode cX8_step 105 = .ok (.iastore, 1) := dk_79 (dk_at dksX8_step_4 14 rfl rfl)
theorem dX8_step_106 : decode cX8_step 106 = .ok (.aload_n 0, 1) := dk_42 (dk_at dksX8_step_4 15 rfl rfl)
theorem dX8_step_107 : decode cX8_step 107 = .ok (.getfield 195, 3) := dk_180 0 195 (dk_at dksX8_step_4 16 rfl rfl)
theorem dX8_step_110 : decode cX8_step 110 = .ok (.aload_n 0, 1) := dk_42 (dk_at dksX8_step_4 19 rfl rfl)
theorem dX8_step_111 : decode cX8_step 111 = .ok (.getfield 484, 3) := dk_180 1 228 (dk_at dksX8_step_4 20 rfl rfl)
theorem dX8_step_114 : decode cX8_step 114 = .ok (.iload_n 3, 1) := dk_29 (dk_at dksX8_step_4 23 rfl rfl)
theorem dX8_step_115 : decode cX8_step 115 = .ok (.iastore, 1) := dk_79 (dk_at dksX8_step_5 0 rfl rfl)
theorem dX8_step_116 : decode cX8_step 116 = .ok (.aload_n 0, 1) := dk_42 (dk_at dksX8_step_5 1 rfl rfl)
theorem dX8_step_117 : decode cX8_step 117 = .ok (.getfield 198, 3) := dk_180 0 198 (dk_at dksX8_step_5 2 rfl rfl)
theorem dX8_step_120 : decode cX8_step 120 = .ok (.aload_n 0, 1) := dk_42 (dk_at dksX8_step_5 5 rfl rfl)
theorem dX8_step_121 : decode cX8_step 121 = .ok (.getfield 484, 3) := dk_180 1 228 (dk_at dksX8_step_5 6 rfl rfl)
theorem dX8_step_124 : decode cX8_step 124 = .ok (.iload 4, 2) := dk_21 4 (dk_at dksX8_step_5 9 rfl rfl)
theorem dX8_step_126 : decode cX8_step 126 = .ok (.iastore, 1) := dk_79 (dk_at dksX8_step_5 11 rfl rfl)
theorem dX8_step_127 : decode cX8_step 127 = .ok (.aload_n 0, 1) := dk_42 (dk_at dksX8_step_5 12 rfl rfl)
theorem dX8_step_128 : decode cX8_step 128 = .ok (.getfield 201, 3) := dk_180 0 201 (dk_at dksX8_step_5 13 rfl rfl)
theorem dX8_step_131 : decode cX8_step 131 = .ok (.aload_n 0, 1) := dk_42 (dk_at dksX8_step_5 16 rfl rfl)
theorem dX8_step_132 : decode cX8_step 132 = .ok (.getfield 484, 3) := dk_180 1 228 (dk_at dksX8_step_5 17 rfl rfl)
theorem dX8_step_135 : decode cX8_step 135 = .ok (.iload 5, 2) := dk_21 5 (dk_at dksX8_step_5 20 rfl rfl)
theorem dX8_step_137 : decode cX8_step 137 = .ok (.iastore, 1) := dk_79 (dk_at dksX8_step_5 22 rfl rfl)
theorem dX8_step_138 : decode cX8_step 138 = .ok (.aload_n 0, 1) := dk_42 (dk_at dksX8_step_5 23 rfl rfl)
theorem dX8_step_139 : decode cX8_step 139 = .ok (.getfield 204, 3) := dk_180 0 204 (dk_at dksX8_step_6 0 rfl rfl)
theorem dX8_step_142 : decode cX8_step 142 = .ok (.aload_n 0, 1) := dk_42 (dk_at dksX8_step_6 3 rfl rfl)
theorem dX8_step_143 : decode cX8_step 143 = .ok (.getfield 484, 3) := dk_180 1 228 (dk_at dksX8_step_6 4 rfl rfl)
theorem dX8_step_146 : decode cX8_step 146 = .ok (.iload 6, 2) := dk_21 6 (dk_at dksX8_step_6 7 rfl rfl)
theorem dX8_step_148 : decode cX8_step 148 = .ok (.iastore, 1) := dk_79 (dk_at dksX8_step_6 9 rfl rfl)
theorem dX8_step_149 : decode cX8_step 149 = .ok (.aload_n 0, 1) := dk_42 (dk_at dksX8_step_6 10 rfl rfl)
theorem dX8_step_150 : decode cX8_step 150 = .ok (.dup, 1) := dk_89 (dk_at dksX8_step_6 11 rfl rfl)
theorem dX8_step_151 : decode cX8_step 151 = .ok (.getfield 484, 3) := dk_180 1 228 (dk_at dksX8_step_6 12 rfl rfl)
theorem dX8_step_154 : decode cX8_step 154 = .ok (.iconst 1, 1) := dk_4 (dk_at dksX8_step_6 15 rfl rfl)
theorem dX8_step_155 : decode cX8_step 155 = .ok (.iadd, 1) := dk_96 (dk_at dksX8_step_6 16 rfl rfl)
theorem dX8_step_156 : decode cX8_step 156 = .ok (.putfield 484, 3) := dk_181 1 228 (dk_at dksX8_step_6 17 rfl rfl)
theorem dX8_step_159 : decode cX8_step 159 = .ok (.aload_n 0, 1) := dk_42 (dk_at dksX8_step_6 20 rfl rfl)
theorem dX8_step_160 : decode cX8_step 160 = .ok (.getfield 484, 3) := dk_180 1 228 (dk_at dksX8_step_6 21 rfl rfl)
theorem dX8_step_163 : decode cX8_step 163 = .ok (.ireturn, 1) := dk_172 (dk_at dksX8_step_7 0 rfl rfl)
abbrev cX8_run : ByteArray := prog_20_method_99_code
def yX8_run : MethodName := ⟨RX8, "run", "()I"⟩
def dkwX8_run_3 : List UInt8 := [42, 21, 4, 182, 1, 240, 132, 4, 255, 167, 255, 242, 28, 172, 132, 2, 1, 167, 255, 204, 2, 172]
abbrev dktX8_run_3 : List UInt8 := dkwX8_run_3 ++ []
def dkwX8_run_2 : List UInt8 := [29, 5, 162, 0, 36, 29, 4, 160, 0, 7, 28, 167, 0, 6, 28, 4, 100, 54, 4, 21, 4, 155, 0, 15]
abbrev dktX8_run_2 : List UInt8 := dkwX8_run_2 ++ dktX8_run_3
def dkwX8_run_1 : List UInt8 := [172, 42, 180, 1, 228, 60, 42, 3, 181, 1, 228, 3, 61, 28, 27, 162, 0, 53, 42, 28, 182, 1, 237, 62]
abbrev dktX8_run_1 : List UInt8 := dkwX8_run_1 ++ dktX8_run_2
def dkwX8_run_0 : List UInt8 := [42, 42, 180, 1, 228, 154, 0, 7, 4, 167, 0, 4, 3, 181, 0, 213, 42, 180, 0, 213, 158, 0, 5, 3]
abbrev dktX8_run_0 : List UInt8 := dkwX8_run_0 ++ dktX8_run_1
theorem dksX8_run_0 : cX8_run.data.toList.drop 0 = dktX8_run_0 := by decide +kernel
theorem dksX8_run_1 : cX8_run.data.toList.drop 24 = dktX8_run_1 := dk_seg dksX8_run_0 24 rfl rfl
theorem dksX8_run_2 : cX8_run.data.toList.drop 48 = dktX8_run_2 := dk_seg dksX8_run_1 24 rfl rfl
theorem dksX8_run_3 : cX8_run.data.toList.drop 72 = dktX8_run_3 := dk_seg dksX8_run_2 24 rfl rfl
theorem dX8_run_0 : decode cX8_run 0 = .ok (.aload_n 0, 1) := dk_42 (dk_at dksX8_run_0 0 rfl rfl)
theorem dX8_run_1 : decode cX8_run 1 = .ok (.aload_n 0, 1) := dk_42 (dk_at dksX8_run_0 1 rfl rfl)
theorem dX8_run_2 : decode cX8_run 2 = .ok (.getfield 484, 3) := dk_180 1 228 (dk_at dksX8_run_0 2 rfl rfl)
theorem dX8_run_5 : decode cX8_run 5 = .ok (.ifCond .ne 7, 3) := dk_154 0 7 (dk_at dksX8_run_0 5 rfl rfl)
theorem dX8_run_8 : decode cX8_run 8 = .ok (.iconst 1, 1) := dk_4 (dk_at dksX8_run_0 8 rfl rfl)
theorem dX8_run_9 : decode cX8_run 9 = .ok (.goto 4, 3) := dk_167 0 4 (dk_at dksX8_run_0 9 rfl rfl)
theorem dX8_run_12 : decode cX8_run 12 = .ok (.iconst 0, 1) := dk_3 (dk_at dksX8_run_0 12 rfl rfl)
theorem dX8_run_13 : decode cX8_run 13 = .ok (.putfield 213, 3) := dk_181 0 213 (dk_at dksX8_run_0 13 rfl rfl)
theorem dX8_run_16 : decode cX8_run 16 = .ok (.aload_n 0, 1) := dk_42 (dk_at dksX8_run_0 16 rfl rfl)
theorem dX8_run_17 : decode cX8_run 17 = .ok (.getfield 213, 3) := dk_180 0 213 (dk_at dksX8_run_0 17 rfl rfl)
theorem dX8_run_20 : decode cX8_run 20 = .ok (.ifCond .le 5, 3) := dk_158 0 5 (dk_at dksX8_run_0 20 rfl rfl)
theorem dX8_run_23 : decode cX8_run 23 = .ok (.iconst 0, 1) := dk_3 (dk_at dksX8_run_0 23 rfl rfl)
theorem dX8_run_24 : decode cX8_run 24 = .ok (.ireturn, 1) := dk_172 (dk_at dksX8_run_1 0 rfl rfl)
theorem dX8_run_25 : decode cX8_run 25 = .ok (.aload_n 0, 1) := dk_42 (dk_at dksX8_run_1 1 rfl rfl)
theorem dX8_run_26 : decode cX8_run 26 = .ok (.getfield 484, 3) := dk_180 1 228 (dk_at dksX8_run_1 2 rfl rfl)
theorem dX8_run_29 : decode cX8_run 29 = .ok (.istore_n 1, 1) := dk_60 (dk_at dksX8_run_1 5 rfl rfl)
theorem dX8_run_30 : decode cX8_run 30 = .ok (.aload_n 0, 1) := dk_42 (dk_at dksX8_run_1 6 rfl rfl)
theorem dX8_run_31 : decode cX8_run 31 = .ok (.iconst 0, 1) := dk_3 (dk_at dksX8_run_1 7 rfl rfl)
theorem dX8_run_32 : decode cX8_run 32 = .ok (.putfield 484, 3) := dk_181 1 228 (dk_at dksX8_run_1 8 rfl rfl)
theorem dX8_run_35 : decode cX8_run 35 = .ok (.iconst 0, 1) := dk_3 (dk_at dksX8_run_1 11 rfl rfl)
theorem dX8_run_36 : decode cX8_run 36 = .ok (.istore_n 2, 1) := dk_61 (dk_at dksX8_run_1 12 rfl rfl)
theorem dX8_run_37 : decode cX8_run 37 = .ok (.iload_n 2, 1) := dk_28 (dk_at dksX8_run_1 13 rfl rfl)
theorem dX8_run_38 : decode cX8_run 38 = .ok (.iload_n 1, 1) := dk_27 (dk_at dksX8_run_1 14 rfl rfl)
theorem dX8_run_39 : decode cX8_run 39 = .ok (.if_icmp .ge 53, 3) := dk_162 0 53 (dk_at dksX8_run_1 15 rfl rfl)
theorem dX8_run_42 : decode cX8_run 42 = .ok (.aload_n 0, 1) := dk_42 (dk_at dksX8_run_1 18 rfl rfl)
theorem dX8_run_43 : decode cX8_run 43 = .ok (.iload_n 2, 1) := dk_28 (dk_at dksX8_run_1 19 rfl rfl)
theorem dX8_run_44 : decode cX8_run 44 = .ok (.invokevirtual 493, 3) := dk_182 1 237 (dk_at dksX8_run_1 20 rfl rfl)
theorem dX8_run_47 : decode cX8_run 47 = .ok (.istore_n 3, 1) := dk_62 (dk_at dksX8_run_1 23 rfl rfl)
theorem dX8_run_48 : decode cX8_run 48 = .ok (.iload_n 3, 1) := dk_29 (dk_at dksX8_run_2 0 rfl rfl)
theorem dX8_run_49 : decode cX8_run 49 = .ok (.iconst 2, 1) := dk_5 (dk_at dksX8_run_2 1 rfl rfl)
theorem dX8_run_50 : decode cX8_run 50 = .ok (.if_icmp .ge 36, 3) := dk_162 0 36 (dk_at dksX8_run_2 2 rfl rfl)
theorem dX8_run_53 : decode cX8_run 53 = .ok (.iload_n 3, 1) := dk_29 (dk_at dksX8_run_2 5 rfl rfl)
theorem dX8_run_54 : decode cX8_run 54 = .ok (.iconst 1, 1) := dk_4 (dk_at dksX8_run_2 6 rfl rfl)
theorem dX8_run_55 : decode cX8_run 55 = .ok (.if_icmp .ne 7, 3) := dk_160 0 7 (dk_at dksX8_run_2 7 rfl rfl)
theorem dX8_run_58 : decode cX8_run 58 = .ok (.iload_n 2, 1) := dk_28 (dk_at dksX8_run_2 10 rfl rfl)
theorem dX8_run_59 : decode cX8_run 59 = .ok (.goto 6, 3) := dk_167 0 6 (dk_at dksX8_run_2 11 rfl rfl)
theorem dX8_run_62 : decode cX8_run 62 = .ok (.iload_n 2, 1) := dk_28 (dk_at dksX8_run_2 14 rfl rfl)
theorem dX8_run_63 : decode cX8_run 63 = .ok (.iconst 1, 1) := dk_4 (dk_at dksX8_run_2 15 rfl rfl)
theorem dX8_run_64 : decode cX8_run 64 = .ok (.isub, 1) := dk_100 (dk_at dksX8_run_2 16 rfl rfl)
theorem dX8_run_65 : decode cX8_run 65 = .ok (.istore 4, 2) := dk_54 4 (dk_at dksX8_run_2 17 rfl rfl)
theorem dX8_run_67 : decode cX8_run 67 = .ok (.iload 4, 2) := dk_21 4 (dk_at dksX8_run_2 19 rfl rfl)
theorem dX8_run_69 : decode cX8_run 69 = .ok (.ifCond .lt 15, 3) := dk_155 0 15 (dk_at dksX8_run_2 21 rfl rfl)
theorem dX8_run_72 : decode cX8_run 72 = .ok (.aload_n 0, 1) := dk_42 (dk_at dksX8_run_3 0 rfl rfl)
theorem dX8_run_73 : decode cX8_run 73 = .ok (.iload 4, 2) := dk_21 4 (dk_at dksX8_run_3 1 rfl rfl)
theorem dX8_run_75 : decode cX8_run 75 = .ok (.invokevirtual 496, 3) := dk_182 1 240 (dk_at dksX8_run_3 3 rfl rfl)
theorem dX8_run_78 : decode cX8_run 78 = .ok (.iinc 4 (-1), 3) := dk_132 4 255 (dk_at dksX8_run_3 6 rfl rfl)
theorem dX8_run_81 : decode cX8_run 81 = .ok (.goto (-14), 3) := dk_167 255 242 (dk_at dksX8_run_3 9 rfl rfl)
theorem dX8_run_84 : decode cX8_run 84 = .ok (.iload_n 2, 1) := dk_28 (dk_at dksX8_run_3 12 rfl rfl)
theorem dX8_run_85 : decode cX8_run 85 = .ok (.ireturn, 1) := dk_172 (dk_at dksX8_run_3 13 rfl rfl)
theorem dX8_run_86 : decode cX8_run 86 = .ok (.iinc 2 1, 3) := dk_132 2 1 (dk_at dksX8_run_3 14 rfl rfl)
theorem dX8_run_89 : decode cX8_run 89 = .ok (.goto (-52), 3) := dk_167 255 204 (dk_at dksX8_run_3 17 rfl rfl)
theorem dX8_run_92 : decode cX8_run 92 = .ok (.iconst (-1), 1) := dk_2 (dk_at dksX8_run_3 20 rfl rfl)
theorem dX8_run_93 : decode cX8_run 93 = .ok (.ireturn, 1) := dk_172 (dk_at dksX8_run_3 21 rfl rfl)
abbrev cX8_runs : ByteArray := prog_20_method_98_code
def yX8_runs : MethodName := ⟨RX8, "runs", "(I)I"⟩
def dkwX8_runs_4 : List UInt8 := [167, 0, 4, 3, 172, 132, 5, 1, 167, 255, 173, 29, 153, 0, 7, 4, 167, 0, 4, 3, 172]
abbrev dktX8_runs_4 : List UInt8 := dkwX8_runs_4 ++ []
def dkwX8_runs_3 : List UInt8 := [54, 4, 29, 153, 0, 8, 42, 27, 182, 1, 234, 21, 6, 5, 160, 0, 13, 29, 153, 0, 7, 5]
abbrev dktX8_runs_3 : List UInt8 := dkwX8_runs_3 ++ dktX8_runs_4
def dkwX8_runs_2 : List UInt8 := [180, 0, 43, 28, 51, 153, 0, 29, 42, 27, 182, 1, 231, 62, 29, 154, 0, 7, 4, 167, 0, 4, 3]
abbrev dktX8_runs_2 : List UInt8 := dkwX8_runs_2 ++ dktX8_runs_3
def dkwX8_runs_1 : List UInt8 := [42, 28, 3, 182, 1, 92, 54, 6, 29, 154, 0, 49, 21, 4, 154, 0, 44, 21, 6, 5, 159, 0, 12, 42]
abbrev dktX8_runs_1 : List UInt8 := dkwX8_runs_1 ++ dktX8_runs_2
def dkwX8_runs_0 : List UInt8 := [42, 180, 0, 192, 27, 46, 184, 0, 220, 61, 3, 62, 3, 54, 4, 3, 54, 5, 21, 5, 6, 162, 0, 83]
abbrev dktX8_runs_0 : List UInt8 := dkwX8_runs_0 ++ dktX8_runs_1
theorem dksX8_runs_0 : cX8_runs.data.toList.drop 0 = dktX8_runs_0 := by decide +kernel
theorem dksX8_runs_1 : cX8_runs.data.toList.drop 24 = dktX8_runs_1 := dk_seg dksX8_runs_0 24 rfl rfl
theorem dksX8_runs_2 : cX8_runs.data.toList.drop 48 = dktX8_runs_2 := dk_seg dksX8_runs_1 24 rfl rfl
theorem dksX8_runs_3 : cX8_runs.data.toList.drop 71 = dktX8_runs_3 := dk_seg dksX8_runs_2 23 rfl rfl
theorem dksX8_runs_4 : cX8_runs.data.toList.drop 93 = dktX8_runs_4 := dk_seg dksX8_runs_3 22 rfl rfl
theorem dX8_runs_0 : decode cX8_runs 0 = .ok (.aload_n 0, 1) := dk_42 (dk_at dksX8_runs_0 0 rfl rfl)
theorem dX8_runs_1 : decode cX8_runs 1 = .ok (.getfield 192, 3) := dk_180 0 192 (dk_at dksX8_runs_0 1 rfl rfl)
theorem dX8_runs_4 : decode cX8_runs 4 = .ok (.iload_n 1, 1) := dk_27 (dk_at dksX8_runs_0 4 rfl rfl)
theorem dX8_runs_5 : decode cX8_runs 5 = .ok (.iaload, 1) := dk_46 (dk_at dksX8_runs_0 5 rfl rfl)
theorem dX8_runs_6 : decode cX8_runs 6 = .ok (.invokestatic 220, 3) := dk_184 0 220 (dk_at dksX8_runs_0 6 rfl rfl)
theorem dX8_runs_9 : decode cX8_runs 9 = .ok (.istore_n 2, 1) := dk_61 (dk_at dksX8_runs_0 9 rfl rfl)
theorem dX8_runs_10 : decode cX8_runs 10 = .ok (.iconst 0, 1) := dk_3 (dk_at dksX8_runs_0 10 rfl rfl)
theorem dX8_runs_11 : decode cX8_runs 11 = .ok (.istore_n 3, 1) := dk_62 (dk_at dksX8_runs_0 11 rfl rfl)
theorem dX8_runs_12 : decode cX8_runs 12 = .ok (.iconst 0, 1) := dk_3 (dk_at dksX8_runs_0 12 rfl rfl)
theorem dX8_runs_13 : decode cX8_runs 13 = .ok (.istore 4, 2) := dk_54 4 (dk_at dksX8_runs_0 13 rfl rfl)
theorem dX8_runs_15 : decode cX8_runs 15 = .ok (.iconst 0, 1) := dk_3 (dk_at dksX8_runs_0 15 rfl rfl)
theorem dX8_runs_16 : decode cX8_runs 16 = .ok (.istore 5, 2) := dk_54 5 (dk_at dksX8_runs_0 16 rfl rfl)
theorem dX8_runs_18 : decode cX8_runs 18 = .ok (.iload 5, 2) := dk_21 5 (dk_at dksX8_runs_0 18 rfl rfl)
theorem dX8_runs_20 : decode cX8_runs 20 = .ok (.iconst 3, 1) := dk_6 (dk_at dksX8_runs_0 20 rfl rfl)
theorem dX8_runs_21 : decode cX8_runs 21 = .ok (.if_icmp .ge 83, 3) := dk_162 0 83 (dk_at dksX8_runs_0 21 rfl rfl)
theorem dX8_runs_24 : decode cX8_runs 24 = .ok (.aload_n 0, 1) := dk_42 (dk_at dksX8_runs_1 0 rfl rfl)
theorem dX8_runs_25 : decode cX8_runs 25 = .ok (.iload_n 2, 1) := dk_28 (dk_at dksX8_runs_1 1 rfl rfl)
theorem dX8_runs_26 : decode cX8_runs 26 = .ok (.iconst 0, 1) := dk_3 (dk_at dksX8_runs_1 2 rfl rfl)
theorem dX8_runs_27 : decode cX8_runs 27 = .ok (.invokevirtual 348, 3) := dk_182 1 92 (dk_at dksX8_runs_1 3 rfl rfl)
theorem dX8_runs_30 : decode cX8_runs 30 = .ok (.istore 6, 2) := dk_54 6 (dk_at dksX8_runs_1 6 rfl rfl)
theorem dX8_runs_32 : decode cX8_runs 32 = .ok (.iload_n 3, 1) := dk_29 (dk_at dksX8_runs_1 8 rfl rfl)
theorem dX8_runs_33 : decode cX8_runs 33 = .ok (.ifCond .ne 49, 3) := dk_154 0 49 (dk_at dksX8_runs_1 9 rfl rfl)
theorem dX8_runs_36 : decode cX8_runs 36 = .ok (.iload 4, 2) := dk_21 4 (dk_at dksX8_runs_1 12 rfl rfl)
theorem dX8_runs_38 : decode cX8_runs 38 = .ok (.ifCond .ne 44, 3) := dk_154 0 44 (dk_at dksX8_runs_1 14 rfl rfl)
theorem dX8_runs_41 : decode cX8_runs 41 = .ok (.iload 6, 2) := dk_21 6 (dk_at dksX8_runs_1 17 rfl rfl)
theorem dX8_runs_43 : decode cX8_runs 43 = .ok (.iconst 2, 1) := dk_5 (dk_at dksX8_runs_1 19 rfl rfl)
theorem dX8_runs_44 : decode cX8_runs 44 = .ok (.if_icmp .eq 12, 3) := dk_159 0 12 (dk_at dksX8_runs_1 20 rfl rfl)
theorem dX8_runs_47 : decode cX8_runs 47 = .ok (.aload_n 0, 1) := dk_42 (dk_at dksX8_runs_1 23 rfl rfl)
theorem dX8_runs_48 : decode cX8_runs 48 = .ok (.getfield 43, 3) := dk_180 0 43 (dk_at dksX8_runs_2 0 rfl rfl)
theorem dX8_runs_51 : decode cX8_runs 51 = .ok (.iload_n 2, 1) := dk_28 (dk_at dksX8_runs_2 3 rfl rfl)
theorem dX8_runs_52 : decode cX8_runs 52 = .ok (.baload, 1) := dk_51 (dk_at dksX8_runs_2 4 rfl rfl)
theorem dX8_runs_53 : decode cX8_runs 53 = .ok (.ifCond .eq 29, 3) := dk_153 0 29 (dk_at dksX8_runs_2 5 rfl rfl)
theorem dX8_runs_56 : decode cX8_runs 56 = .ok (.aload_n 0, 1) := dk_42 (dk_at dksX8_runs_2 8 rfl rfl)
theorem dX8_runs_57 : decode cX8_runs 57 = .ok (.iload_n 1, 1) := dk_27 (dk_at dksX8_runs_2 9 rfl rfl)
theorem dX8_runs_58 : decode cX8_runs 58 = .ok (.invokevirtual 487, 3) := dk_182 1 231 (dk_at dksX8_runs_2 10 rfl rfl)
theorem dX8_runs_61 : decode cX8_runs 61 = .ok (.istore_n 3, 1) := dk_62 (dk_at dksX8_runs_2 13 rfl rfl)
theorem dX8_runs_62 : decode cX8_runs 62 = .ok (.iload_n 3, 1) := dk_29 (dk_at dksX8_runs_2 14 rfl rfl)
theorem dX8_runs_63 : decode cX8_runs 63 = .ok (.ifCond .ne 7, 3) := dk_154 0 7 (dk_at dksX8_runs_2 15 rfl rfl)
theorem dX8_runs_66 : decode cX8_runs 66 = .ok (.iconst 1, 1) := dk_4 (dk_at dksX8_runs_2 18 rfl rfl)
theorem dX8_runs_67 : decode cX8_runs 67 = .ok (.goto 4, 3) := dk_167 0 4 (dk_at dksX8_runs_2 19 rfl rfl)
theorem dX8_runs_70 : decode cX8_runs 70 = .ok (.iconst 0, 1) := dk_3 (dk_at dksX8_runs_2 22 rfl rfl)
theorem dX8_runs_71 : decode cX8_runs 71 = .ok (.istore 4, 2) := dk_54 4 (dk_at dksX8_runs_3 0 rfl rfl)
theorem dX8_runs_73 : decode cX8_runs 73 = .ok (.iload_n 3, 1) := dk_29 (dk_at dksX8_runs_3 2 rfl rfl)
theorem dX8_runs_74 : decode cX8_runs 74 = .ok (.ifCond .eq 8, 3) := dk_153 0 8 (dk_at dksX8_runs_3 3 rfl rfl)
theorem dX8_runs_77 : decode cX8_runs 77 = .ok (.aload_n 0, 1) := dk_42 (dk_at dksX8_runs_3 6 rfl rfl)
theorem dX8_runs_78 : decode cX8_runs 78 = .ok (.iload_n 1, 1) := dk_27 (dk_at dksX8_runs_3 7 rfl rfl)
theorem dX8_runs_79 : decode cX8_runs 79 = .ok (.invokevirtual 490, 3) := dk_182 1 234 (dk_at dksX8_runs_3 8 rfl rfl)
theorem dX8_runs_82 : decode cX8_runs 82 = .ok (.iload 6, 2) := dk_21 6 (dk_at dksX8_runs_3 11 rfl rfl)
theorem dX8_runs_84 : decode cX8_runs 84 = .ok (.iconst 2, 1) := dk_5 (dk_at dksX8_runs_3 13 rfl rfl)
theorem dX8_runs_85 : decode cX8_runs 85 = .ok (.if_icmp .ne 13, 3) := dk_160 0 13 (dk_at dksX8_runs_3 14 rfl rfl)
theorem dX8_runs_88 : decode cX8_runs 88 = .ok (.iload_n 3, 1) := dk_29 (dk_at dksX8_runs_3 17 rfl rfl)
theorem dX8_runs_89 : decode cX8_runs 89 = .ok (.ifCond .eq 7, 3) := dk_153 0 7 (dk_at dksX8_runs_3 18 rfl rfl)
theorem dX8_runs_92 : decode cX8_runs 92 = .ok (.iconst 2, 1) := dk_5 (dk_at dksX8_runs_3 21 rfl rfl)
theorem dX8_runs_93 : decode cX8_runs 93 = .ok (.goto 4, 3) := dk_167 0 4 (dk_at dksX8_runs_4 0 rfl rfl)
theorem dX8_runs_96 : decode cX8_runs 96 = .ok (.iconst 0, 1) := dk_3 (dk_at dksX8_runs_4 3 rfl rfl)
theorem dX8_runs_97 : decode cX8_runs 97 = .ok (.ireturn, 1) := dk_172 (dk_at dksX8_runs_4 4 rfl rfl)
theorem dX8_runs_98 : decode cX8_runs 98 = .ok (.iinc 5 1, 3) := dk_132 5 1 (dk_at dksX8_runs_4 5 rfl rfl)
theorem dX8_runs_101 : decode cX8_runs 101 = .ok (.goto (-83), 3) := dk_167 255 173 (dk_at dksX8_runs_4 8 rfl rfl)
theorem dX8_runs_104 : decode cX8_runs 104 = .ok (.iload_n 3, 1) := dk_29 (dk_at dksX8_runs_4 11 rfl rfl)
theorem dX8_runs_105 : decode cX8_runs 105 = .ok (.ifCond .eq 7, 3) := dk_153 0 7 (dk_at dksX8_runs_4 12 rfl rfl)
theorem dX8_runs_108 : decode cX8_runs 108 = .ok (.iconst 1, 1) := dk_4 (dk_at dksX8_runs_4 15 rfl rfl)
theorem dX8_runs_109 : decode cX8_runs 109 = .ok (.goto 4, 3) := dk_167 0 4 (dk_at dksX8_runs_4 16 rfl rfl)
theorem dX8_runs_112 : decode cX8_runs 112 = .ok (.iconst 0, 1) := dk_3 (dk_at dksX8_runs_4 19 rfl rfl)
theorem dX8_runs_113 : decode cX8_runs 113 = .ok (.ireturn, 1) := dk_172 (dk_at dksX8_runs_4 20 rfl rfl)
abbrev cX8_canStep : ByteArray := prog_20_method_95_code
def yX8_canStep : MethodName := ⟨RX8, "canStep", "(I)Z"⟩
def dkwX8_canStep_4 : List UInt8 := [167, 0, 23, 42, 28, 42, 180, 0, 195, 27, 46, 182, 0, 252, 2, 159, 0, 7, 4, 167, 0, 4, 3, 172]
abbrev dktX8_canStep_4 : List UInt8 := dkwX8_canStep_4 ++ []
def dkwX8_canStep_3 : List UInt8 := [42, 180, 0, 198, 27, 46, 42, 180, 0, 201, 27, 46, 182, 1, 24, 154, 0, 7, 4, 167, 0, 27, 3]
abbrev dktX8_canStep_3 : List UInt8 := dkwX8_canStep_3 ++ dktX8_canStep_4
def dkwX8_canStep_2 : List UInt8 := [4, 167, 0, 4, 3, 172, 42, 180, 0, 189, 27, 46, 4, 160, 0, 37, 42, 28, 42, 180, 0, 195, 27, 46]
abbrev dktX8_canStep_2 : List UInt8 := dkwX8_canStep_2 ++ dktX8_canStep_3
def dkwX8_canStep_1 : List UInt8 := [42, 180, 0, 198, 27, 46, 42, 180, 0, 201, 27, 46, 42, 180, 0, 204, 27, 46, 182, 1, 17, 154, 0, 7]
abbrev dktX8_canStep_1 : List UInt8 := dkwX8_canStep_1 ++ dktX8_canStep_2
def dkwX8_canStep_0 : List UInt8 := [42, 180, 0, 192, 27, 46, 61, 42, 180, 0, 189, 27, 46, 154, 0, 41, 42, 28, 42, 180, 0, 195, 27, 46]
abbrev dktX8_canStep_0 : List UInt8 := dkwX8_canStep_0 ++ dktX8_canStep_1
theorem dksX8_canStep_0 : cX8_canStep.data.toList.drop 0 = dktX8_canStep_0 := by decide +kernel
theorem dksX8_canStep_1 : cX8_canStep.data.toList.drop 24 = dktX8_canStep_1 := dk_seg dksX8_canStep_0 24 rfl rfl
theorem dksX8_canStep_2 : cX8_canStep.data.toList.drop 48 = dktX8_canStep_2 := dk_seg dksX8_canStep_1 24 rfl rfl
theorem dksX8_canStep_3 : cX8_canStep.data.toList.drop 72 = dktX8_canStep_3 := dk_seg dksX8_canStep_2 24 rfl rfl
theorem dksX8_canStep_4 : cX8_canStep.data.toList.drop 95 = dktX8_canStep_4 := dk_seg dksX8_canStep_3 23 rfl rfl
theorem dX8_canStep_0 : decode cX8_canStep 0 = .ok (.aload_n 0, 1) := dk_42 (dk_at dksX8_canStep_0 0 rfl rfl)
theorem dX8_canStep_1 : decode cX8_canStep 1 = .ok (.getfield 192, 3) := dk_180 0 192 (dk_at dksX8_canStep_0 1 rfl rfl)
theorem dX8_canStep_4 : decode cX8_canStep 4 = .ok (.iload_n 1, 1) := dk_27 (dk_at dksX8_canStep_0 4 rfl rfl)
theorem dX8_canStep_5 : decode cX8_canStep 5 = .ok (.iaload, 1) := dk_46 (dk_at dksX8_canStep_0 5 rfl rfl)
theorem dX8_canStep_6 : decode cX8_canStep 6 = .ok (.istore_n 2, 1) := dk_61 (dk_at dksX8_canStep_0 6 rfl rfl)
theorem dX8_canStep_7 : decode cX8_canStep 7 = .ok (.aload_n 0, 1) := dk_42 (dk_at dksX8_canStep_0 7 rfl rfl)
theorem dX8_canStep_8 : decode cX8_canStep 8 = .ok (.getfield 189, 3) := dk_180 0 189 (dk_at dksX8_canStep_0 8 rfl rfl)
theorem dX8_canStep_11 : decode cX8_canStep 11 = .ok (.iload_n 1, 1) := dk_27 (dk_at dksX8_canStep_0 11 rfl rfl)
theorem dX8_canStep_12 : decode cX8_canStep 12 = .ok (.iaload, 1) := dk_46 (dk_at dksX8_canStep_0 12 rfl rfl)
theorem dX8_canStep_13 : decode cX8_canStep 13 = .ok (.ifCond .ne 41, 3) := dk_154 0 41 (dk_at dksX8_canStep_0 13 rfl rfl)
theorem dX8_canStep_16 : decode cX8_canStep 16 = .ok (.aload_n 0, 1) := dk_42 (dk_at dksX8_canStep_0 16 rfl rfl)
theorem dX8_canStep_17 : decode cX8_canStep 17 = .ok (.iload_n 2, 1) := dk_28 (dk_at dksX8_canStep_0 17 rfl rfl)
theorem dX8_canStep_18 : decode cX8_canStep 18 = .ok (.aload_n 0, 1) := dk_42 (dk_at dksX8_canStep_0 18 rfl rfl)
theorem dX8_canStep_19 : decode cX8_canStep 19 = .ok (.getfield 195, 3) := dk_180 0 195 (dk_at dksX8_canStep_0 19 rfl rfl)
theorem dX8_canStep_22 : decode cX8_canStep 22 = .ok (.iload_n 1, 1) := dk_27 (dk_at dksX8_canStep_0 22 rfl rfl)
theorem dX8_canStep_23 : decode cX8_canStep 23 = .ok (.iaload, 1) := dk_46 (dk_at dksX8_canStep_0 23 rfl rfl)
theorem dX8_canStep_24 : decode cX8_canStep 24 = .ok (.aload_n 0, 1) := dk_42 (dk_at dksX8_canStep_1 0 rfl rfl)
theorem dX8_canStep_25 : decode cX8_canStep 25 = .ok (.getfield 198, 3) := dk_180 0 198 (dk_at dksX8_canStep_1 1 rfl rfl)
theorem dX8_canStep_28 : decode cX8_canStep 28 = .ok (.iload_n 1, 1) := dk_27 (dk_at dksX8_canStep_1 4 rfl rfl)
theorem dX8_canStep_29 : decode cX8_canStep 29 = .ok (.iaload, 1) := dk_46 (dk_at dksX8_canStep_1 5 rfl rfl)
theorem dX8_canStep_30 : decode cX8_canStep 30 = .ok (.aload_n 0, 1) := dk_42 (dk_at dksX8_canStep_1 6 rfl rfl)
theorem dX8_canStep_31 : decode cX8_canStep 31 = .ok (.getfield 201, 3) := dk_180 0 201 (dk_at dksX8_canStep_1 7 rfl rfl)
theorem dX8_canStep_34 : decode cX8_canStep 34 = .ok (.iload_n 1, 1) := dk_27 (dk_at dksX8_canStep_1 10 rfl rfl)
theorem dX8_canStep_35 : decode cX8_canStep 35 = .ok (.iaload, 1) := dk_46 (dk_at dksX8_canStep_1 11 rfl rfl)
theorem dX8_canStep_36 : decode cX8_canStep 36 = .ok (.aload_n 0, 1) := dk_42 (dk_at dksX8_canStep_1 12 rfl rfl)
theorem dX8_canStep_37 : decode cX8_canStep 37 = .ok (.getfield 204, 3) := dk_180 0 204 (dk_at dksX8_canStep_1 13 rfl rfl)
theorem dX8_canStep_40 : decode cX8_canStep 40 = .ok (.iload_n 1, 1) := dk_27 (dk_at dksX8_canStep_1 16 rfl rfl)
theorem dX8_canStep_41 : decode cX8_canStep 41 = .ok (.iaload, 1) := dk_46 (dk_at dksX8_canStep_1 17 rfl rfl)
theorem dX8_canStep_42 : decode cX8_canStep 42 = .ok (.invokevirtual 273, 3) := dk_182 1 17 (dk_at dksX8_canStep_1 18 rfl rfl)
theorem dX8_canStep_45 : decode cX8_canStep 45 = .ok (.ifCond .ne 7, 3) := dk_154 0 7 (dk_at dksX8_canStep_1 21 rfl rfl)
theorem dX8_canStep_48 : decode cX8_canStep 48 = .ok (.iconst 1, 1) := dk_4 (dk_at dksX8_canStep_2 0 rfl rfl)
theorem dX8_canStep_49 : decode cX8_canStep 49 = .ok (.goto 4, 3) := dk_167 0 4 (dk_at dksX8_canStep_2 1 rfl rfl)
theorem dX8_canStep_52 : decode cX8_canStep 52 = .ok (.iconst 0, 1) := dk_3 (dk_at dksX8_canStep_2 4 rfl rfl)
theorem dX8_canStep_53 : decode cX8_canStep 53 = .ok (.ireturn, 1) := dk_172 (dk_at dksX8_canStep_2 5 rfl rfl)
theorem dX8_canStep_54 : decode cX8_canStep 54 = .ok (.aload_n 0, 1) := dk_42 (dk_at dksX8_canStep_2 6 rfl rfl)
theorem dX8_canStep_55 : decode cX8_canStep 55 = .ok (.getfield 189, 3) := dk_180 0 189 (dk_at dksX8_canStep_2 7 rfl rfl)
theorem dX8_canStep_58 : decode cX8_canStep 58 = .ok (.iload_n 1, 1) := dk_27 (dk_at dksX8_canStep_2 10 rfl rfl)
theorem dX8_canStep_59 : decode cX8_canStep 59 = .ok (.iaload, 1) := dk_46 (dk_at dksX8_canStep_2 11 rfl rfl)
theorem dX8_canStep_60 : decode cX8_canStep 60 = .ok (.iconst 1, 1) := dk_4 (dk_at dksX8_canStep_2 12 rfl rfl)
theorem dX8_canStep_61 : decode cX8_canStep 61 = .ok (.if_icmp .ne 37, 3) := dk_160 0 37 (dk_at dksX8_canStep_2 13 rfl rfl)
theorem dX8_canStep_64 : decode cX8_canStep 64 = .ok (.aload_n 0, 1) := dk_42 (dk_at dksX8_canStep_2 16 rfl rfl)
theorem dX8_canStep_65 : decode cX8_canStep 65 = .ok (.iload_n 2, 1) := dk_28 (dk_at dksX8_canStep_2 17 rfl rfl)
theorem dX8_canStep_66 : decode cX8_canStep 66 = .ok (.aload_n 0, 1) := dk_42 (dk_at dksX8_canStep_2 18 rfl rfl)
theorem dX8_canStep_67 : decode cX8_canStep 67 = .ok (.getfield 195, 3) := dk_180 0 195 (dk_at dksX8_canStep_2 19 rfl rfl)
theorem dX8_canStep_70 : decode cX8_canStep 70 = .ok (.iload_n 1, 1) := dk_27 (dk_at dksX8_canStep_2 22 rfl rfl)
theorem dX8_canStep_71 : decode cX8_canStep 71 = .ok (.iaload, 1) := dk_46 (dk_at dksX8_canStep_2 23 rfl rfl)
theorem dX8_canStep_72 : decode cX8_canStep 72 = .ok (.aload_n 0, 1) := dk_42 (dk_at dksX8_canStep_3 0 rfl rfl)
theorem dX8_canStep_73 : decode cX8_canStep 73 = .ok (.getfield 198, 3) := dk_180 0 198 (dk_at dksX8_canStep_3 1 rfl rfl)
theorem dX8_canStep_76 : decode cX8_canStep 76 = .ok (.iload_n 1, 1) := dk_27 (dk_at dksX8_canStep_3 4 rfl rfl)
theorem dX8_canStep_77 : decode cX8_canStep 77 = .ok (.iaload, 1) := dk_46 (dk_at dksX8_canStep_3 5 rfl rfl)
theorem dX8_canStep_78 : decode cX8_canStep 78 = .ok (.aload_n 0, 1) := dk_42 (dk_at dksX8_canStep_3 6 rfl rfl)
theorem dX8_canStep_79 : decode cX8_canStep 79 = .ok (.getfield 201, 3) := dk_180 0 201 (dk_at dksX8_canStep_3 7 rfl rfl)
theorem dX8_canStep_82 : decode cX8_canStep 82 = .ok (.iload_n 1, 1) := dk_27 (dk_at dksX8_canStep_3 10 rfl rfl)
theorem dX8_canStep_83 : decode cX8_canStep 83 = .ok (.iaload, 1) := dk_46 (dk_at dksX8_canStep_3 11 rfl rfl)
theorem dX8_canStep_84 : decode cX8_canStep 84 = .ok (.invokevirtual 280, 3) := dk_182 1 24 (dk_at dksX8_canStep_3 12 rfl rfl)
theorem dX8_canStep_87 : decode cX8_canStep 87 = .ok (.ifCond .ne 7, 3) := dk_154 0 7 (dk_at dksX8_canStep_3 15 rfl rfl)
theorem dX8_canStep_90 : decode cX8_canStep 90 = .ok (.iconst 1, 1) := dk_4 (dk_at dksX8_canStep_3 18 rfl rfl)
theorem dX8_canStep_91 : decode cX8_canStep 91 = .ok (.goto 27, 3) := dk_167 0 27 (dk_at dksX8_canStep_3 19 rfl rfl)
theorem dX8_canStep_94 : decode cX8_canStep 94 = .ok (.iconst 0, 1) := dk_3 (dk_at dksX8_canStep_3 22 rfl rfl)
theorem dX8_canStep_95 : decode cX8_canStep 95 = .ok (.goto 23, 3) := dk_167 0 23 (dk_at dksX8_canStep_4 0 rfl rfl)
theorem dX8_canStep_98 : decode cX8_canStep 98 = .ok (.aload_n 0, 1) := dk_42 (dk_at dksX8_canStep_4 3 rfl rfl)
theorem dX8_canStep_99 : decode cX8_canStep 99 = .ok (.iload_n 2, 1) := dk_28 (dk_at dksX8_canStep_4 4 rfl rfl)
theorem dX8_canStep_100 : decode cX8_canStep 100 = .ok (.aload_n 0, 1) := dk_42 (dk_at dksX8_canStep_4 5 rfl rfl)
theorem dX8_canStep_101 : decode cX8_canStep 101 = .ok (.getfield 195, 3) := dk_180 0 195 (dk_at dksX8_canStep_4 6 rfl rfl)
theorem dX8_canStep_104 : decode cX8_canStep 104 = .ok (.iload_n 1, 1) := dk_27 (dk_at dksX8_canStep_4 9 rfl rfl)
theorem dX8_canStep_105 : decode cX8_canStep 105 = .ok (.iaload, 1) := dk_46 (dk_at dksX8_canStep_4 10 rfl rfl)
theorem dX8_canStep_106 : decode cX8_canStep 106 = .ok (.invokevirtual 252, 3) := dk_182 0 252 (dk_at dksX8_canStep_4 11 rfl rfl)
theorem dX8_canStep_109 : decode cX8_canStep 109 = .ok (.iconst (-1), 1) := dk_2 (dk_at dksX8_canStep_4 14 rfl rfl)
theorem dX8_canStep_110 : decode cX8_canStep 110 = .ok (.if_icmp .eq 7, 3) := dk_159 0 7 (dk_at dksX8_canStep_4 15 rfl rfl)
theorem dX8_canStep_113 : decode cX8_canStep 113 = .ok (.iconst 1, 1) := dk_4 (dk_at dksX8_canStep_4 18 rfl rfl)
theorem dX8_canStep_114 : decode cX8_canStep 114 = .ok (.goto 4, 3) := dk_167 0 4 (dk_at dksX8_canStep_4 19 rfl rfl)
theorem dX8_canStep_117 : decode cX8_canStep 117 = .ok (.iconst 0, 1) := dk_3 (dk_at dksX8_canStep_4 22 rfl rfl)
theorem dX8_canStep_118 : decode cX8_canStep 118 = .ok (.ireturn, 1) := dk_172 (dk_at dksX8_canStep_4 23 rfl rfl)
abbrev cX8_doesStep : ByteArray := prog_20_method_96_code
def yX8_doesStep : MethodName := ⟨RX8, "doesStep", "(I)V"⟩
def dkwX8_doesStep_7 : List UInt8 := [167, 255, 213, 42, 28, 42, 180, 0, 195, 27, 46, 182, 1, 31, 177]
abbrev dktX8_doesStep_7 : List UInt8 := dkwX8_doesStep_7 ++ []
def dkwX8_doesStep_6 : List UInt8 := [16, 12, 28, 104, 42, 28, 42, 180, 0, 195, 27, 46, 182, 0, 252, 96, 104, 29, 96, 46, 79, 132, 3, 1]
abbrev dktX8_doesStep_6 : List UInt8 := dkwX8_doesStep_6 ++ dktX8_doesStep_7
def dkwX8_doesStep_5 : List UInt8 := [167, 0, 62, 3, 62, 29, 7, 162, 0, 44, 42, 180, 0, 210, 7, 27, 104, 29, 96, 42, 180, 0, 16, 7]
abbrev dktX8_doesStep_5 : List UInt8 := dkwX8_doesStep_5 ++ dktX8_doesStep_6
def dkwX8_doesStep_4 : List UInt8 := [46, 42, 28, 42, 180, 0, 198, 27, 46, 42, 180, 0, 201, 27, 46, 182, 1, 6, 182, 1, 28, 79]
abbrev dktX8_doesStep_4 : List UInt8 := dkwX8_doesStep_4 ++ dktX8_doesStep_5
def dkwX8_doesStep_3 : List UInt8 := [4, 160, 0, 48, 42, 180, 0, 210, 7, 27, 104, 42, 28, 42, 180, 0, 195, 27, 46, 42, 180, 0, 198, 27]
abbrev dktX8_doesStep_3 : List UInt8 := dkwX8_doesStep_3 ++ dktX8_doesStep_4
def dkwX8_doesStep_2 : List UInt8 := [180, 0, 201, 27, 46, 42, 180, 0, 204, 27, 46, 182, 1, 21, 79, 167, 0, 117, 42, 180, 0, 189, 27, 46]
abbrev dktX8_doesStep_2 : List UInt8 := dkwX8_doesStep_2 ++ dktX8_doesStep_3
def dkwX8_doesStep_1 : List UInt8 := [46, 154, 0, 41, 42, 180, 0, 207, 27, 42, 28, 42, 180, 0, 195, 27, 46, 42, 180, 0, 198, 27, 46, 42]
abbrev dktX8_doesStep_1 : List UInt8 := dkwX8_doesStep_1 ++ dktX8_doesStep_2
def dkwX8_doesStep_0 : List UInt8 := [42, 180, 0, 192, 27, 46, 61, 42, 180, 0, 207, 27, 42, 180, 0, 195, 27, 46, 79, 42, 180, 0, 189, 27]
abbrev dktX8_doesStep_0 : List UInt8 := dkwX8_doesStep_0 ++ dktX8_doesStep_1
theorem dksX8_doesStep_0 : cX8_doesStep.data.toList.drop 0 = dktX8_doesStep_0 := by decide +kernel
theorem dksX8_doesStep_1 : cX8_doesStep.data.toList.drop 24 = dktX8_doesStep_1 := dk_seg dksX8_doesStep_0 24 rfl rfl
theorem dksX8_doesStep_2 : cX8_doesStep.data.toList.drop 48 = dktX8_doesStep_2 := dk_seg dksX8_doesStep_1 24 rfl rfl
theorem dksX8_doesStep_3 : cX8_doesStep.data.toList.drop 72 = dktX8_doesStep_3 := dk_seg dksX8_doesStep_2 24 rfl rfl
theorem dksX8_doesStep_4 : cX8_doesStep.data.toList.drop 96 = dktX8_doesStep_4 := dk_seg dksX8_doesStep_3 24 rfl rfl
theorem dksX8_doesStep_5 : cX8_doesStep.data.toList.drop 118 = dktX8_doesStep_5 := dk_seg dksX8_doesStep_4 22 rfl rfl
theorem dksX8_doesStep_6 : cX8_doesStep.data.toList.drop 142 = dktX8_doesStep_6 := dk_seg dksX8_doesStep_5 24 rfl rfl
theorem dksX8_doesStep_7 : cX8_doesStep.data.toList.drop 166 = dktX8_doesStep_7 := dk_seg dksX8_doesStep_6 24 rfl rfl
theorem dX8_doesStep_0 : decode cX8_doesStep 0 = .ok (.aload_n 0, 1) := dk_42 (dk_at dksX8_doesStep_0 0 rfl rfl)
theorem dX8_doesStep_1 : decode cX8_doesStep 1 = .ok (.getfield 192, 3) := dk_180 0 192 (dk_at dksX8_doesStep_0 1 rfl rfl)
theorem dX8_doesStep_4 : decode cX8_doesStep 4 = .ok (.iload_n 1, 1) := dk_27 (dk_at dksX8_doesStep_0 4 rfl rfl)
theorem dX8_doesStep_5 : decode cX8_doesStep 5 = .ok (.iaload, 1) := dk_46 (dk_at dksX8_doesStep_0 5 rfl rfl)
theorem dX8_doesStep_6 : decode cX8_doesStep 6 = .ok (.istore_n 2, 1) := dk_61 (dk_at dksX8_doesStep_0 6 rfl rfl)
theorem dX8_doesStep_7 : decode cX8_doesStep 7 = .ok (.aload_n 0, 1) := dk_42 (dk_at dksX8_doesStep_0 7 rfl rfl)
theorem dX8_doesStep_8 : decode cX8_doesStep 8 = .ok (.getfield 207, 3) := dk_180 0 207 (dk_at dksX8_doesStep_0 8 rfl rfl)
theorem dX8_doesStep_11 : decode cX8_doesStep 11 = .ok (.iload_n 1, 1) := dk_27 (dk_at dksX8_doesStep_0 11 rfl rfl)
theorem dX8_doesStep_12 : decode cX8_doesStep 12 = .ok (.aload_n 0, 1) := dk_42 (dk_at dksX8_doesStep_0 12 rfl rfl)
theorem dX8_doesStep_13 : decode cX8_doesStep 13 = .ok (.getfield 195, 3) := dk_180 0 195 (dk_at dksX8_doesStep_0 13 rfl rfl)
theorem dX8_doesStep_16 : decode cX8_doesStep 16 = .ok (.iload_n 1, 1) := dk_27 (dk_at dksX8_doesStep_0 16 rfl rfl)
theorem dX8_doesStep_17 : decode cX8_doesStep 17 = .ok (.iaload, 1) := dk_46 (dk_at dksX8_doesStep_0 17 rfl rfl)
theorem dX8_doesStep_18 : decode cX8_doesStep 18 = .ok (.iastore, 1) := dk_79 (dk_at dksX8_doesStep_0 18 rfl rfl)
theorem dX8_doesStep_19 : decode cX8_doesStep 19 = .ok (.aload_n 0, 1) := dk_42 (dk_at dksX8_doesStep_0 19 rfl rfl)
theorem dX8_doesStep_20 : decode cX8_doesStep 20 = .ok (.getfield 189, 3) := dk_180 0 189 (dk_at dksX8_doesStep_0 20 rfl rfl)
theorem dX8_doesStep_23 : decode cX8_doesStep 23 = .ok (.iload_n 1, 1) := dk_27 (dk_at dksX8_doesStep_0 23 rfl rfl)
theorem dX8_doesStep_24 : decode cX8_doesStep 24 = .ok (.iaload, 1) := dk_46 (dk_at dksX8_doesStep_1 0 rfl rfl)
theorem dX8_doesStep_25 : decode cX8_doesStep 25 = .ok (.ifCond .ne 41, 3) := dk_154 0 41 (dk_at dksX8_doesStep_1 1 rfl rfl)
theorem dX8_doesStep_28 : decode cX8_doesStep 28 = .ok (.aload_n 0, 1) := dk_42 (dk_at dksX8_doesStep_1 4 rfl rfl)
theorem dX8_doesStep_29 : decode cX8_doesStep 29 = .ok (.getfield 207, 3) := dk_180 0 207 (dk_at dksX8_doesStep_1 5 rfl rfl)
theorem dX8_doesStep_32 : decode cX8_doesStep 32 = .ok (.iload_n 1, 1) := dk_27 (dk_at dksX8_doesStep_1 8 rfl rfl)
theorem dX8_doesStep_33 : decode cX8_doesStep 33 = .ok (.aload_n 0, 1) := dk_42 (dk_at dksX8_doesStep_1 9 rfl rfl)
theorem dX8_doesStep_34 : decode cX8_doesStep 34 = .ok (.iload_n 2, 1) := dk_28 (dk_at dksX8_doesStep_1 10 rfl rfl)
theorem dX8_doesStep_35 : decode cX8_doesStep 35 = .ok (.aload_n 0, 1) := dk_42 (dk_at dksX8_doesStep_1 11 rfl rfl)
theorem dX8_doesStep_36 : decode cX8_doesStep 36 = .ok (.getfield 195, 3) := dk_180 0 195 (dk_at dksX8_doesStep_1 12 rfl rfl)
theorem dX8_doesStep_39 : decode cX8_doesStep 39 = .ok (.iload_n 1, 1) := dk_27 (dk_at dksX8_doesStep_1 15 rfl rfl)
theorem dX8_doesStep_40 : decode cX8_doesStep 40 = .ok (.iaload, 1) := dk_46 (dk_at dksX8_doesStep_1 16 rfl rfl)
theorem dX8_doesStep_41 : decode cX8_doesStep 41 = .ok (.aload_n 0, 1) := dk_42 (dk_at dksX8_doesStep_1 17 rfl rfl)
theorem dX8_doesStep_42 : decode cX8_doesStep 42 = .ok (.getfield 198, 3) := dk_180 0 198 (dk_at dksX8_doesStep_1 18 rfl rfl)
theorem dX8_doesStep_45 : decode cX8_doesStep 45 = .ok (.iload_n 1, 1) := dk_27 (dk_at dksX8_doesStep_1 21 rfl rfl)
theorem dX8_doesStep_46 : decode cX8_doesStep 46 = .ok (.iaload, 1) := dk_46 (dk_at dksX8_doesStep_1 22 rfl rfl)
theorem dX8_doesStep_47 : decode cX8_doesStep 47 = .ok (.aload_n 0, 1) := dk_42 (dk_at dksX8_doesStep_1 23 rfl rfl)
theorem dX8_doesStep_48 : decode cX8_doesStep 48 = .ok (.getfield 201, 3) := dk_180 0 201 (dk_at dksX8_doesStep_2 0 rfl rfl)
theorem dX8_doesStep_51 : decode cX8_doesStep 51 = .ok (.iload_n 1, 1) := dk_27 (dk_at dksX8_doesStep_2 3 rfl rfl)
theorem dX8_doesStep_52 : decode cX8_doesStep 52 = .ok (.iaload, 1) := dk_46 (dk_at dksX8_doesStep_2 4 rfl rfl)
theorem dX8_doesStep_53 : decode cX8_doesStep 53 = .ok (.aload_n 0, 1) := dk_42 (dk_at dksX8_doesStep_2 5 rfl rfl)
theorem dX8_doesStep_54 : decode cX8_doesStep 54 = .ok (.getfield 204, 3) := dk_180 0 204 (dk_at dksX8_doesStep_2 6 rfl rfl)
theorem dX8_doesStep_57 : decode cX8_doesStep 57 = .ok (.iload_n 1, 1) := dk_27 (dk_at dksX8_doesStep_2 9 rfl rfl)
theorem dX8_doesStep_58 : decode cX8_doesStep 58 = .ok (.iaload, 1) := dk_46 (dk_at dksX8_doesStep_2 10 rfl rfl)
theorem dX8_doesStep_59 : decode cX8_doesStep 59 = .ok (.invokevirtual 277, 3) := dk_182 1 21 (dk_at dksX8_doesStep_2 11 rfl rfl)
theorem dX8_doesStep_62 : decode cX8_doesStep 62 = .ok (.iastore, 1) := dk_79 (dk_at dksX8_doesStep_2 14 rfl rfl)
theorem dX8_doesStep_63 : decode cX8_doesStep 63 = .ok (.goto 117, 3) := dk_167 0 117 (dk_at dksX8_doesStep_2 15 rfl rfl)
theorem dX8_doesStep_66 : decode cX8_doesStep 66 = .ok (.aload_n 0, 1) := dk_42 (dk_at dksX8_doesStep_2 18 rfl rfl)
theorem dX8_doesStep_67 : decode cX8_doesStep 67 = .ok (.getfield 189, 3) := dk_180 0 189 (dk_at dksX8_doesStep_2 19 rfl rfl)
theorem dX8_doesStep_70 : decode cX8_doesStep 70 = .ok (.iload_n 1, 1) := dk_27 (dk_at dksX8_doesStep_2 22 rfl rfl)
theorem dX8_doesStep_71 : decode cX8_doesStep 71 = .ok (.iaload, 1) := dk_46 (dk_at dksX8_doesStep_2 23 rfl rfl)
theorem dX8_doesStep_72 : decode cX8_doesStep 72 = .ok (.iconst 1, 1) := dk_4 (dk_at dksX8_doesStep_3 0 rfl rfl)
theorem dX8_doesStep_73 : decode cX8_doesStep 73 = .ok (.if_icmp .ne 48, 3) := dk_160 0 48 (dk_at dksX8_doesStep_3 1 rfl rfl)
theorem dX8_doesStep_76 : decode cX8_doesStep 76 = .ok (.aload_n 0, 1) := dk_42 (dk_at dksX8_doesStep_3 4 rfl rfl)
theorem dX8_doesStep_77 : decode cX8_doesStep 77 = .ok (.getfield 210, 3) := dk_180 0 210 (dk_at dksX8_doesStep_3 5 rfl rfl)
theorem dX8_doesStep_80 : decode cX8_doesStep 80 = .ok (.iconst 4, 1) := dk_7 (dk_at dksX8_doesStep_3 8 rfl rfl)
theorem dX8_doesStep_81 : decode cX8_doesStep 81 = .ok (.iload_n 1, 1) := dk_27 (dk_at dksX8_doesStep_3 9 rfl rfl)
theorem dX8_doesStep_82 : decode cX8_doesStep 82 = .ok (.imul, 1) := dk_104 (dk_at dksX8_doesStep_3 10 rfl rfl)
theorem dX8_doesStep_83 : decode cX8_doesStep 83 = .ok (.aload_n 0, 1) := dk_42 (dk_at dksX8_doesStep_3 11 rfl rfl)
theorem dX8_doesStep_84 : decode cX8_doesStep 84 = .ok (.iload_n 2, 1) := dk_28 (dk_at dksX8_doesStep_3 12 rfl rfl)
theorem dX8_doesStep_85 : decode cX8_doesStep 85 = .ok (.aload_n 0, 1) := dk_42 (dk_at dksX8_doesStep_3 13 rfl rfl)
theorem dX8_doesStep_86 : decode cX8_doesStep 86 = .ok (.getfield 195, 3) := dk_180 0 195 (dk_at dksX8_doesStep_3 14 rfl rfl)
theorem dX8_doesStep_89 : decode cX8_doesStep 89 = .ok (.iload_n 1, 1) := dk_27 (dk_at dksX8_doesStep_3 17 rfl rfl)
theorem dX8_doesStep_90 : decode cX8_doesStep 90 = .ok (.iaload, 1) := dk_46 (dk_at dksX8_doesStep_3 18 rfl rfl)
theorem dX8_doesStep_91 : decode cX8_doesStep 91 = .ok (.aload_n 0, 1) := dk_42 (dk_at dksX8_doesStep_3 19 rfl rfl)
theorem dX8_doesStep_92 : decode cX8_doesStep 92 = .ok (.getfield 198, 3) := dk_180 0 198 (dk_at dksX8_doesStep_3 20 rfl rfl)
theorem dX8_doesStep_95 : decode cX8_doesStep 95 = .ok (.iload_n 1, 1) := dk_27 (dk_at dksX8_doesStep_3 23 rfl rfl)
theorem dX8_doesStep_96 : decode cX8_doesStep 96 = .ok (.iaload, 1) := dk_46 (dk_at dksX8_doesStep_4 0 rfl rfl)
theorem dX8_doesStep_97 : decode cX8_doesStep 97 = .ok (.aload_n 0, 1) := dk_42 (dk_at dksX8_doesStep_4 1 rfl rfl)
theorem dX8_doesStep_98 : decode cX8_doesStep 98 = .ok (.iload_n 2, 1) := dk_28 (dk_at dksX8_doesStep_4 2 rfl rfl)
theorem dX8_doesStep_99 : decode cX8_doesStep 99 = .ok (.aload_n 0, 1) := dk_42 (dk_at dksX8_doesStep_4 3 rfl rfl)
theorem dX8_doesStep_100 : decode cX8_doesStep 100 = .ok (.getfield 198, 3) := dk_180 0 198 (dk_at dksX8_doesStep_4 4 rfl rfl)
theorem dX8_doesStep_103 : decode cX8_doesStep 103 = .ok (.iload_n 1, 1) := dk_27 (dk_at dksX8_doesStep_4 7 rfl rfl)
theorem dX8_doesStep_104 : decode cX8_doesStep 104 = .ok (.iaload, 1) := dk_46 (dk_at dksX8_doesStep_4 8 rfl rfl)
theorem dX8_doesStep_105 : decode cX8_doesStep 105 = .ok (.aload_n 0, 1) := dk_42 (dk_at dksX8_doesStep_4 9 rfl rfl)
theorem dX8_doesStep_106 : decode cX8_doesStep 106 = .ok (.getfield 201, 3) := dk_180 0 201 (dk_at dksX8_doesStep_4 10 rfl rfl)
theorem dX8_doesStep_109 : decode cX8_doesStep 109 = .ok (.iload_n 1, 1) := dk_27 (dk_at dksX8_doesStep_4 13 rfl rfl)
theorem dX8_doesStep_110 : decode cX8_doesStep 110 = .ok (.iaload, 1) := dk_46 (dk_at dksX8_doesStep_4 14 rfl rfl)
theorem dX8_doesStep_111 : decode cX8_doesStep 111 = .ok (.invokevirtual 262, 3) := dk_182 1 6 (dk_at dksX8_doesStep_4 15 rfl rfl)
theorem dX8_doesStep_114 : decode cX8_doesStep 114 = .ok (.invokevirtual 284, 3) := dk_182 1 28 (dk_at dksX8_doesStep_4 18 rfl rfl)
theorem dX8_doesStep_117 : decode cX8_doesStep 117 = .ok (.iastore, 1) := dk_79 (dk_at dksX8_doesStep_4 21 rfl rfl)
theorem dX8_doesStep_118 : decode cX8_doesStep 118 = .ok (.goto 62, 3) := dk_167 0 62 (dk_at dksX8_doesStep_5 0 rfl rfl)
theorem dX8_doesStep_121 : decode cX8_doesStep 121 = .ok (.iconst 0, 1) := dk_3 (dk_at dksX8_doesStep_5 3 rfl rfl)
theorem dX8_doesStep_122 : decode cX8_doesStep 122 = .ok (.istore_n 3, 1) := dk_62 (dk_at dksX8_doesStep_5 4 rfl rfl)
theorem dX8_doesStep_123 : decode cX8_doesStep 123 = .ok (.iload_n 3, 1) := dk_29 (dk_at dksX8_doesStep_5 5 rfl rfl)
theorem dX8_doesStep_124 : decode cX8_doesStep 124 = .ok (.iconst 4, 1) := dk_7 (dk_at dksX8_doesStep_5 6 rfl rfl)
theorem dX8_doesStep_125 : decode cX8_doesStep 125 = .ok (.if_icmp .ge 44, 3) := dk_162 0 44 (dk_at dksX8_doesStep_5 7 rfl rfl)
theorem dX8_doesStep_128 : decode cX8_doesStep 128 = .ok (.aload_n 0, 1) := dk_42 (dk_at dksX8_doesStep_5 10 rfl rfl)
theorem dX8_doesStep_129 : decode cX8_doesStep 129 = .ok (.getfield 210, 3) := dk_180 0 210 (dk_at dksX8_doesStep_5 11 rfl rfl)
theorem dX8_doesStep_132 : decode cX8_doesStep 132 = .ok (.iconst 4, 1) := dk_7 (dk_at dksX8_doesStep_5 14 rfl rfl)
theorem dX8_doesStep_133 : decode cX8_doesStep 133 = .ok (.iload_n 1, 1) := dk_27 (dk_at dksX8_doesStep_5 15 rfl rfl)
theorem dX8_doesStep_134 : decode cX8_doesStep 134 = .ok (.imul, 1) := dk_104 (dk_at dksX8_doesStep_5 16 rfl rfl)
theorem dX8_doesStep_135 : decode cX8_doesStep 135 = .ok (.iload_n 3, 1) := dk_29 (dk_at dksX8_doesStep_5 17 rfl rfl)
theorem dX8_doesStep_136 : decode cX8_doesStep 136 = .ok (.iadd, 1) := dk_96 (dk_at dksX8_doesStep_5 18 rfl rfl)
theorem dX8_doesStep_137 : decode cX8_doesStep 137 = .ok (.aload_n 0, 1) := dk_42 (dk_at dksX8_doesStep_5 19 rfl rfl)
theorem dX8_doesStep_138 : decode cX8_doesStep 138 = .ok (.getfield 16, 3) := dk_180 0 16 (dk_at dksX8_doesStep_5 20 rfl rfl)
theorem dX8_doesStep_141 : decode cX8_doesStep 141 = .ok (.iconst 4, 1) := dk_7 (dk_at dksX8_doesStep_5 23 rfl rfl)
theorem dX8_doesStep_142 : decode cX8_doesStep 142 = .ok (.bipush 12, 2) := dk_16 12 (dk_at dksX8_doesStep_6 0 rfl rfl)
theorem dX8_doesStep_144 : decode cX8_doesStep 144 = .ok (.iload_n 2, 1) := dk_28 (dk_at dksX8_doesStep_6 2 rfl rfl)
theorem dX8_doesStep_145 : decode cX8_doesStep 145 = .ok (.imul, 1) := dk_104 (dk_at dksX8_doesStep_6 3 rfl rfl)
theorem dX8_doesStep_146 : decode cX8_doesStep 146 = .ok (.aload_n 0, 1) := dk_42 (dk_at dksX8_doesStep_6 4 rfl rfl)
theorem dX8_doesStep_147 : decode cX8_doesStep 147 = .ok (.iload_n 2, 1) := dk_28 (dk_at dksX8_doesStep_6 5 rfl rfl)
theorem dX8_doesStep_148 : decode cX8_doesStep 148 = .ok (.aload_n 0, 1) := dk_42 (dk_at dksX8_doesStep_6 6 rfl rfl)
theorem dX8_doesStep_149 : decode cX8_doesStep 149 = .ok (.getfield 195, 3) := dk_180 0 195 (dk_at dksX8_doesStep_6 7 rfl rfl)
theorem dX8_doesStep_152 : decode cX8_doesStep 152 = .ok (.iload_n 1, 1) := dk_27 (dk_at dksX8_doesStep_6 10 rfl rfl)
theorem dX8_doesStep_153 : decode cX8_doesStep 153 = .ok (.iaload, 1) := dk_46 (dk_at dksX8_doesStep_6 11 rfl rfl)
theorem dX8_doesStep_154 : decode cX8_doesStep 154 = .ok (.invokevirtual 252, 3) := dk_182 0 252 (dk_at dksX8_doesStep_6 12 rfl rfl)
theorem dX8_doesStep_157 : decode cX8_doesStep 157 = .ok (.iadd, 1) := dk_96 (dk_at dksX8_doesStep_6 15 rfl rfl)
theorem dX8_doesStep_158 : decode cX8_doesStep 158 = .ok (.imul, 1) := dk_104 (dk_at dksX8_doesStep_6 16 rfl rfl)
theorem dX8_doesStep_159 : decode cX8_doesStep 159 = .ok (.iload_n 3, 1) := dk_29 (dk_at dksX8_doesStep_6 17 rfl rfl)
theorem dX8_doesStep_160 : decode cX8_doesStep 160 = .ok (.iadd, 1) := dk_96 (dk_at dksX8_doesStep_6 18 rfl rfl)
theorem dX8_doesStep_161 : decode cX8_doesStep 161 = .ok (.iaload, 1) := dk_46 (dk_at dksX8_doesStep_6 19 rfl rfl)
theorem dX8_doesStep_162 : decode cX8_doesStep 162 = .ok (.iastore, 1) := dk_79 (dk_at dksX8_doesStep_6 20 rfl rfl)
theorem dX8_doesStep_163 : decode cX8_doesStep 163 = .ok (.iinc 3 1, 3) := dk_132 3 1 (dk_at dksX8_doesStep_6 21 rfl rfl)
theorem dX8_doesStep_166 : decode cX8_doesStep 166 = .ok (.goto (-43), 3) := dk_167 255 213 (dk_at dksX8_doesStep_7 0 rfl rfl)
theorem dX8_doesStep_169 : decode cX8_doesStep 169 = .ok (.aload_n 0, 1) := dk_42 (dk_at dksX8_doesStep_7 3 rfl rfl)
theorem dX8_doesStep_170 : decode cX8_doesStep 170 = .ok (.iload_n 2, 1) := dk_28 (dk_at dksX8_doesStep_7 4 rfl rfl)
theorem dX8_doesStep_171 : decode cX8_doesStep 171 = .ok (.aload_n 0, 1) := dk_42 (dk_at dksX8_doesStep_7 5 rfl rfl)
theorem dX8_doesStep_172 : decode cX8_doesStep 172 = .ok (.getfield 195, 3) := dk_180 0 195 (dk_at dksX8_doesStep_7 6 rfl rfl)
theorem dX8_doesStep_175 : decode cX8_doesStep 175 = .ok (.iload_n 1, 1) := dk_27 (dk_at dksX8_doesStep_7 9 rfl rfl)
theorem dX8_doesStep_176 : decode cX8_doesStep 176 = .ok (.iaload, 1) := dk_46 (dk_at dksX8_doesStep_7 10 rfl rfl)
theorem dX8_doesStep_177 : decode cX8_doesStep 177 = .ok (.invokevirtual 287, 3) := dk_182 1 31 (dk_at dksX8_doesStep_7 11 rfl rfl)
theorem dX8_doesStep_180 : decode cX8_doesStep 180 = .ok (.return_, 1) := dk_177 (dk_at dksX8_doesStep_7 14 rfl rfl)
abbrev cX8_takesBack : ByteArray := prog_20_method_97_code
def yX8_takesBack : MethodName := ⟨RX8, "takesBack", "(I)V"⟩
def dkwX8_takesBack_4 : List UInt8 := [180, 0, 210, 7, 27, 104, 5, 96, 46, 42, 180, 0, 210, 7, 27, 104, 6, 96, 46, 182, 1, 10, 177]
abbrev dktX8_takesBack_4 : List UInt8 := dkwX8_takesBack_4 ++ []
def dkwX8_takesBack_3 : List UInt8 := [180, 0, 207, 27, 46, 42, 180, 0, 210, 7, 27, 104, 46, 42, 180, 0, 210, 7, 27, 104, 4, 96, 46, 42]
abbrev dktX8_takesBack_3 : List UInt8 := dkwX8_takesBack_3 ++ dktX8_takesBack_4
def dkwX8_takesBack_2 : List UInt8 := [42, 180, 0, 198, 27, 46, 42, 180, 0, 210, 7, 27, 104, 46, 182, 1, 28, 87, 167, 0, 52, 42, 28, 42]
abbrev dktX8_takesBack_2 : List UInt8 := dkwX8_takesBack_2 ++ dktX8_takesBack_3
def dkwX8_takesBack_1 : List UInt8 := [182, 1, 31, 167, 0, 91, 42, 180, 0, 189, 27, 46, 4, 160, 0, 32, 42, 28, 42, 180, 0, 207, 27, 46]
abbrev dktX8_takesBack_1 : List UInt8 := dkwX8_takesBack_1 ++ dktX8_takesBack_2
def dkwX8_takesBack_0 : List UInt8 := [42, 180, 0, 192, 27, 46, 61, 42, 180, 0, 189, 27, 46, 154, 0, 17, 42, 28, 42, 180, 0, 207, 27, 46]
abbrev dktX8_takesBack_0 : List UInt8 := dkwX8_takesBack_0 ++ dktX8_takesBack_1
theorem dksX8_takesBack_0 : cX8_takesBack.data.toList.drop 0 = dktX8_takesBack_0 := by decide +kernel
theorem dksX8_takesBack_1 : cX8_takesBack.data.toList.drop 24 = dktX8_takesBack_1 := dk_seg dksX8_takesBack_0 24 rfl rfl
theorem dksX8_takesBack_2 : cX8_takesBack.data.toList.drop 48 = dktX8_takesBack_2 := dk_seg dksX8_takesBack_1 24 rfl rfl
theorem dksX8_takesBack_3 : cX8_takesBack.data.toList.drop 72 = dktX8_takesBack_3 := dk_seg dksX8_takesBack_2 24 rfl rfl
theorem dksX8_takesBack_4 : cX8_takesBack.data.toList.drop 96 = dktX8_takesBack_4 := dk_seg dksX8_takesBack_3 24 rfl rfl
theorem dX8_takesBack_0 : decode cX8_takesBack 0 = .ok (.aload_n 0, 1) := dk_42 (dk_at dksX8_takesBack_0 0 rfl rfl)
theorem dX8_takesBack_1 : decode cX8_takesBack 1 = .ok (.getfield 192, 3) := dk_180 0 192 (dk_at dksX8_takesBack_0 1 rfl rfl)
theorem dX8_takesBack_4 : decode cX8_takesBack 4 = .ok (.iload_n 1, 1) := dk_27 (dk_at dksX8_takesBack_0 4 rfl rfl)
theorem dX8_takesBack_5 : decode cX8_takesBack 5 = .ok (.iaload, 1) := dk_46 (dk_at dksX8_takesBack_0 5 rfl rfl)
theorem dX8_takesBack_6 : decode cX8_takesBack 6 = .ok (.istore_n 2, 1) := dk_61 (dk_at dksX8_takesBack_0 6 rfl rfl)
theorem dX8_takesBack_7 : decode cX8_takesBack 7 = .ok (.aload_n 0, 1) := dk_42 (dk_at dksX8_takesBack_0 7 rfl rfl)
theorem dX8_takesBack_8 : decode cX8_takesBack 8 = .ok (.getfield 189, 3) := dk_180 0 189 (dk_at dksX8_takesBack_0 8 rfl rfl)
theorem dX8_takesBack_11 : decode cX8_takesBack 11 = .ok (.iload_n 1, 1) := dk_27 (dk_at dksX8_takesBack_0 11 rfl rfl)
theorem dX8_takesBack_12 : decode cX8_takesBack 12 = .ok (.iaload, 1) := dk_46 (dk_at dksX8_takesBack_0 12 rfl rfl)
theorem dX8_takesBack_13 : decode cX8_takesBack 13 = .ok (.ifCond .ne 17, 3) := dk_154 0 17 (dk_at dksX8_takesBack_0 13 rfl rfl)
theorem dX8_takesBack_16 : decode cX8_takesBack 16 = .ok (.aload_n 0, 1) := dk_42 (dk_at dksX8_takesBack_0 16 rfl rfl)
theorem dX8_takesBack_17 : decode cX8_takesBack 17 = .ok (.iload_n 2, 1) := dk_28 (dk_at dksX8_takesBack_0 17 rfl rfl)
theorem dX8_takesBack_18 : decode cX8_takesBack 18 = .ok (.aload_n 0, 1) := dk_42 (dk_at dksX8_takesBack_0 18 rfl rfl)
theorem dX8_takesBack_19 : decode cX8_takesBack 19 = .ok (.getfield 207, 3) := dk_180 0 207 (dk_at dksX8_takesBack_0 19 rfl rfl)
theorem dX8_takesBack_22 : decode cX8_takesBack 22 = .ok (.iload_n 1, 1) := dk_27 (dk_at dksX8_takesBack_0 22 rfl rfl)
theorem dX8_takesBack_23 : decode cX8_takesBack 23 = .ok (.iaload, 1) := dk_46 (dk_at dksX8_takesBack_0 23 rfl rfl)
theorem dX8_takesBack_24 : decode cX8_takesBack 24 = .ok (.invokevirtual 287, 3) := dk_182 1 31 (dk_at dksX8_takesBack_1 0 rfl rfl)
theorem dX8_takesBack_27 : decode cX8_takesBack 27 = .ok (.goto 91, 3) := dk_167 0 91 (dk_at dksX8_takesBack_1 3 rfl rfl)
theorem dX8_takesBack_30 : decode cX8_takesBack 30 = .ok (.aload_n 0, 1) := dk_42 (dk_at dksX8_takesBack_1 6 rfl rfl)
theorem dX8_takesBack_31 : decode cX8_takesBack 31 = .ok (.getfield 189, 3) := dk_180 0 189 (dk_at dksX8_takesBack_1 7 rfl rfl)
theorem dX8_takesBack_34 : decode cX8_takesBack 34 = .ok (.iload_n 1, 1) := dk_27 (dk_at dksX8_takesBack_1 10 rfl rfl)
theorem dX8_takesBack_35 : decode cX8_takesBack 35 = .ok (.iaload, 1) := dk_46 (dk_at dksX8_takesBack_1 11 rfl rfl)
theorem dX8_takesBack_36 : decode cX8_takesBack 36 = .ok (.iconst 1, 1) := dk_4 (dk_at dksX8_takesBack_1 12 rfl rfl)
theorem dX8_takesBack_37 : decode cX8_takesBack 37 = .ok (.if_icmp .ne 32, 3) := dk_160 0 32 (dk_at dksX8_takesBack_1 13 rfl rfl)
theorem dX8_takesBack_40 : decode cX8_takesBack 40 = .ok (.aload_n 0, 1) := dk_42 (dk_at dksX8_takesBack_1 16 rfl rfl)
theorem dX8_takesBack_41 : decode cX8_takesBack 41 = .ok (.iload_n 2, 1) := dk_28 (dk_at dksX8_takesBack_1 17 rfl rfl)
theorem dX8_takesBack_42 : decode cX8_takesBack 42 = .ok (.aload_n 0, 1) := dk_42 (dk_at dksX8_takesBack_1 18 rfl rfl)
theorem dX8_takesBack_43 : decode cX8_takesBack 43 = .ok (.getfield 207, 3) := dk_180 0 207 (dk_at dksX8_takesBack_1 19 rfl rfl)
theorem dX8_takesBack_46 : decode cX8_takesBack 46 = .ok (.iload_n 1, 1) := dk_27 (dk_at dksX8_takesBack_1 22 rfl rfl)
theorem dX8_takesBack_47 : decode cX8_takesBack 47 = .ok (.iaload, 1) := dk_46 (dk_at dksX8_takesBack_1 23 rfl rfl)
theorem dX8_takesBack_48 : decode cX8_takesBack 48 = .ok (.aload_n 0, 1) := dk_42 (dk_at dksX8_takesBack_2 0 rfl rfl)
theorem dX8_takesBack_49 : decode cX8_takesBack 49 = .ok (.getfield 198, 3) := dk_180 0 198 (dk_at dksX8_takesBack_2 1 rfl rfl)
theorem dX8_takesBack_52 : decode cX8_takesBack 52 = .ok (.iload_n 1, 1) := dk_27 (dk_at dksX8_takesBack_2 4 rfl rfl)
theorem dX8_takesBack_53 : decode cX8_takesBack 53 = .ok (.iaload, 1) := dk_46 (dk_at dksX8_takesBack_2 5 rfl rfl)
theorem dX8_takesBack_54 : decode cX8_takesBack 54 = .ok (.aload_n 0, 1) := dk_42 (dk_at dksX8_takesBack_2 6 rfl rfl)
theorem dX8_takesBack_55 : decode cX8_takesBack 55 = .ok (.getfield 210, 3) := dk_180 0 210 (dk_at dksX8_takesBack_2 7 rfl rfl)
theorem dX8_takesBack_58 : decode cX8_takesBack 58 = .ok (.iconst 4, 1) := dk_7 (dk_at dksX8_takesBack_2 10 rfl rfl)
theorem dX8_takesBack_59 : decode cX8_takesBack 59 = .ok (.iload_n 1, 1) := dk_27 (dk_at dksX8_takesBack_2 11 rfl rfl)
theorem dX8_takesBack_60 : decode cX8_takesBack 60 = .ok (.imul, 1) := dk_104 (dk_at dksX8_takesBack_2 12 rfl rfl)
theorem dX8_takesBack_61 : decode cX8_takesBack 61 = .ok (.iaload, 1) := dk_46 (dk_at dksX8_takesBack_2 13 rfl rfl)
theorem dX8_takesBack_62 : decode cX8_takesBack 62 = .ok (.invokevirtual 284, 3) := dk_182 1 28 (dk_at dksX8_takesBack_2 14 rfl rfl)
theorem dX8_takesBack_65 : decode cX8_takesBack 65 = .ok (.pop, 1) := dk_87 (dk_at dksX8_takesBack_2 17 rfl rfl)
theorem dX8_takesBack_66 : decode cX8_takesBack 66 = .ok (.goto 52, 3) := dk_167 0 52 (dk_at dksX8_takesBack_2 18 rfl rfl)
theorem dX8_takesBack_69 : decode cX8_takesBack 69 = .ok (.aload_n 0, 1) := dk_42 (dk_at dksX8_takesBack_2 21 rfl rfl)
theorem dX8_takesBack_70 : decode cX8_takesBack 70 = .ok (.iload_n 2, 1) := dk_28 (dk_at dksX8_takesBack_2 22 rfl rfl)
theorem dX8_takesBack_71 : decode cX8_takesBack 71 = .ok (.aload_n 0, 1) := dk_42 (dk_at dksX8_takesBack_2 23 rfl rfl)
theorem dX8_takesBack_72 : decode cX8_takesBack 72 = .ok (.getfield 207, 3) := dk_180 0 207 (dk_at dksX8_takesBack_3 0 rfl rfl)
theorem dX8_takesBack_75 : decode cX8_takesBack 75 = .ok (.iload_n 1, 1) := dk_27 (dk_at dksX8_takesBack_3 3 rfl rfl)
theorem dX8_takesBack_76 : decode cX8_takesBack 76 = .ok (.iaload, 1) := dk_46 (dk_at dksX8_takesBack_3 4 rfl rfl)
theorem dX8_takesBack_77 : decode cX8_takesBack 77 = .ok (.aload_n 0, 1) := dk_42 (dk_at dksX8_takesBack_3 5 rfl rfl)
theorem dX8_takesBack_78 : decode cX8_takesBack 78 = .ok (.getfield 210, 3) := dk_180 0 210 (dk_at dksX8_takesBack_3 6 rfl rfl)
theorem dX8_takesBack_81 : decode cX8_takesBack 81 = .ok (.iconst 4, 1) := dk_7 (dk_at dksX8_takesBack_3 9 rfl rfl)
theorem dX8_takesBack_82 : decode cX8_takesBack 82 = .ok (.iload_n 1, 1) := dk_27 (dk_at dksX8_takesBack_3 10 rfl rfl)
theorem dX8_takesBack_83 : decode cX8_takesBack 83 = .ok (.imul, 1) := dk_104 (dk_at dksX8_takesBack_3 11 rfl rfl)
theorem dX8_takesBack_84 : decode cX8_takesBack 84 = .ok (.iaload, 1) := dk_46 (dk_at dksX8_takesBack_3 12 rfl rfl)
theorem dX8_takesBack_85 : decode cX8_takesBack 85 = .ok (.aload_n 0, 1) := dk_42 (dk_at dksX8_takesBack_3 13 rfl rfl)
theorem dX8_takesBack_86 : decode cX8_takesBack 86 = .ok (.getfield 210, 3) := dk_180 0 210 (dk_at dksX8_takesBack_3 14 rfl rfl)
theorem dX8_takesBack_89 : decode cX8_takesBack 89 = .ok (.iconst 4, 1) := dk_7 (dk_at dksX8_takesBack_3 17 rfl rfl)
theorem dX8_takesBack_90 : decode cX8_takesBack 90 = .ok (.iload_n 1, 1) := dk_27 (dk_at dksX8_takesBack_3 18 rfl rfl)
theorem dX8_takesBack_91 : decode cX8_takesBack 91 = .ok (.imul, 1) := dk_104 (dk_at dksX8_takesBack_3 19 rfl rfl)
theorem dX8_takesBack_92 : decode cX8_takesBack 92 = .ok (.iconst 1, 1) := dk_4 (dk_at dksX8_takesBack_3 20 rfl rfl)
theorem dX8_takesBack_93 : decode cX8_takesBack 93 = .ok (.iadd, 1) := dk_96 (dk_at dksX8_takesBack_3 21 rfl rfl)
theorem dX8_takesBack_94 : decode cX8_takesBack 94 = .ok (.iaload, 1) := dk_46 (dk_at dksX8_takesBack_3 22 rfl rfl)
theorem dX8_takesBack_95 : decode cX8_takesBack 95 = .ok (.aload_n 0, 1) := dk_42 (dk_at dksX8_takesBack_3 23 rfl rfl)
theorem dX8_takesBack_96 : decode cX8_takesBack 96 = .ok (.getfield 210, 3) := dk_180 0 210 (dk_at dksX8_takesBack_4 0 rfl rfl)
theorem dX8_takesBack_99 : decode cX8_takesBack 99 = .ok (.iconst 4, 1) := dk_7 (dk_at dksX8_takesBack_4 3 rfl rfl)
theorem dX8_takesBack_100 : decode cX8_takesBack 100 = .ok (.iload_n 1, 1) := dk_27 (dk_at dksX8_takesBack_4 4 rfl rfl)
theorem dX8_takesBack_101 : decode cX8_takesBack 101 = .ok (.imul, 1) := dk_104 (dk_at dksX8_takesBack_4 5 rfl rfl)
theorem dX8_takesBack_102 : decode cX8_takesBack 102 = .ok (.iconst 2, 1) := dk_5 (dk_at dksX8_takesBack_4 6 rfl rfl)
theorem dX8_takesBack_103 : decode cX8_takesBack 103 = .ok (.iadd, 1) := dk_96 (dk_at dksX8_takesBack_4 7 rfl rfl)
theorem dX8_takesBack_104 : decode cX8_takesBack 104 = .ok (.iaload, 1) := dk_46 (dk_at dksX8_takesBack_4 8 rfl rfl)
theorem dX8_takesBack_105 : decode cX8_takesBack 105 = .ok (.aload_n 0, 1) := dk_42 (dk_at dksX8_takesBack_4 9 rfl rfl)
theorem dX8_takesBack_106 : decode cX8_takesBack 106 = .ok (.getfield 210, 3) := dk_180 0 210 (dk_at dksX8_takesBack_4 10 rfl rfl)
theorem dX8_takesBack_109 : decode cX8_takesBack 109 = .ok (.iconst 4, 1) := dk_7 (dk_at dksX8_takesBack_4 13 rfl rfl)
theorem dX8_takesBack_110 : decode cX8_takesBack 110 = .ok (.iload_n 1, 1) := dk_27 (dk_at dksX8_takesBack_4 14 rfl rfl)
theorem dX8_takesBack_111 : decode cX8_takesBack 111 = .ok (.imul, 1) := dk_104 (dk_at dksX8_takesBack_4 15 rfl rfl)
theorem dX8_takesBack_112 : decode cX8_takesBack 112 = .ok (.iconst 3, 1) := dk_6 (dk_at dksX8_takesBack_4 16 rfl rfl)
theorem dX8_takesBack_113 : decode cX8_takesBack 113 = .ok (.iadd, 1) := dk_96 (dk_at dksX8_takesBack_4 17 rfl rfl)
theorem dX8_takesBack_114 : decode cX8_takesBack 114 = .ok (.iaload, 1) := dk_46 (dk_at dksX8_takesBack_4 18 rfl rfl)
theorem dX8_takesBack_115 : decode cX8_takesBack 115 = .ok (.invokevirtual 266, 3) := dk_182 1 10 (dk_at dksX8_takesBack_4 19 rfl rfl)
theorem dX8_takesBack_118 : decode cX8_takesBack 118 = .ok (.return_, 1) := dk_177 (dk_at dksX8_takesBack_4 22 rfl rfl)
theorem q95 : (Jvm.Cond.initialized "QueryHarborModel") ∈ lw_all := lw_g (lw_at lw_m1 11 rfl) rfl
theorem q939 : (Jvm.Cond.selects "QueryHarborModel" ({ cls := "java/lang/Object", name := "getClass", desc := "()Ljava/lang/Class;" } : Jvm.MethodName) ({ cls := "java/lang/Object", name := "getClass", desc := "()Ljava/lang/Class;" } : Jvm.MethodName)) ∈ lw_all := lw_g (lw_at lw_m4 135 rfl) rfl
theorem q1652 : (Jvm.Cond.instantiable "QueryHarborModel" (94 : Nat)) ∈ lw_all := lw_g (lw_at lw_m7 128 rfl) rfl
theorem q1654 : (Jvm.Cond.instanceMethod ({ cls := "QueryHarborModel", name := "<init>", desc := "()V" } : Jvm.MethodName)) ∈ lw_all := lw_g (lw_at lw_m7 130 rfl) rfl
theorem q1655 : (Jvm.Cond.code ({ cls := "QueryHarborModel", name := "<init>", desc := "()V" } : Jvm.MethodName) prog_20_method_1_code (1 : Nat) (Option.none : Option Jvm.ClassFile.FieldType)) ∈ lw_all := lw_g (lw_at lw_m7 131 rfl) rfl
theorem q1656 : (Jvm.Cond.methodLink "QueryHarborModel" (1 : Nat) ({ cls := "java/lang/Object", name := "<init>", desc := "()V" } : Jvm.MethodName)) ∈ lw_all := lw_g (lw_at lw_m7 132 rfl) rfl
theorem q1657 : (Jvm.Cond.fieldLink "QueryHarborModel" (213 : Nat) "QueryHarborModel" "thrown" "I") ∈ lw_all := lw_g (lw_at lw_m7 133 rfl) rfl
theorem q1658 : (Jvm.Cond.fieldLink "QueryHarborModel" (7 : Nat) "QueryHarborModel" "many" "[I") ∈ lw_all := lw_g (lw_at lw_m7 134 rfl) rfl
theorem q1659 : (Jvm.Cond.fieldLink "QueryHarborModel" (13 : Nat) "QueryHarborModel" "mark" "[I") ∈ lw_all := lw_g (lw_at lw_m7 135 rfl) rfl
theorem q1660 : (Jvm.Cond.fieldLink "QueryHarborModel" (16 : Nat) "QueryHarborModel" "cells" "[I") ∈ lw_all := lw_g (lw_at lw_m7 136 rfl) rfl
theorem q1661 : (Jvm.Cond.fieldLink "QueryHarborModel" (19 : Nat) "QueryHarborModel" "added" "[I") ∈ lw_all := lw_g (lw_at lw_m7 137 rfl) rfl
theorem q1662 : (Jvm.Cond.fieldLink "QueryHarborModel" (22 : Nat) "QueryHarborModel" "lastWrite" "[I") ∈ lw_all := lw_g (lw_at lw_m7 138 rfl) rfl
theorem q1663 : (Jvm.Cond.fieldLink "QueryHarborModel" (256 : Nat) "QueryHarborModel" "losses" "I") ∈ lw_all := lw_g (lw_at lw_m7 139 rfl) rfl
theorem q1664 : (Jvm.Cond.fieldLink "QueryHarborModel" (242 : Nat) "QueryHarborModel" "moment" "I") ∈ lw_all := lw_g (lw_at lw_m7 140 rfl) rfl
theorem q1665 : (Jvm.Cond.fieldLink "QueryHarborModel" (235 : Nat) "QueryHarborModel" "now" "I") ∈ lw_all := lw_g (lw_at lw_m7 141 rfl) rfl
theorem q1666 : (Jvm.Cond.fieldLink "QueryHarborModel" (25 : Nat) "QueryHarborModel" "delay" "[I") ∈ lw_all := lw_g (lw_at lw_m7 142 rfl) rfl
theorem q1667 : (Jvm.Cond.fieldLink "QueryHarborModel" (28 : Nat) "QueryHarborModel" "lag" "[I") ∈ lw_all := lw_g (lw_at lw_m7 143 rfl) rfl
theorem q1668 : (Jvm.Cond.fieldLink "QueryHarborModel" (31 : Nat) "QueryHarborModel" "quota" "[I") ∈ lw_all := lw_g (lw_at lw_m7 144 rfl) rfl
theorem q1669 : (Jvm.Cond.fieldLink "QueryHarborModel" (34 : Nat) "QueryHarborModel" "cap" "[I") ∈ lw_all := lw_g (lw_at lw_m7 145 rfl) rfl
theorem q1670 : (Jvm.Cond.fieldLink "QueryHarborModel" (37 : Nat) "QueryHarborModel" "lease" "[I") ∈ lw_all := lw_g (lw_at lw_m7 146 rfl) rfl
theorem q1671 : (Jvm.Cond.fieldLink "QueryHarborModel" (40 : Nat) "QueryHarborModel" "failing" "[I") ∈ lw_all := lw_g (lw_at lw_m7 147 rfl) rfl
theorem q1672 : (Jvm.Cond.fieldLink "QueryHarborModel" (43 : Nat) "QueryHarborModel" "doesIt" "[Z") ∈ lw_all := lw_g (lw_at lw_m7 148 rfl) rfl
theorem q1673 : (Jvm.Cond.fieldLink "QueryHarborModel" (47 : Nat) "QueryHarborModel" "window" "[I") ∈ lw_all := lw_g (lw_at lw_m7 149 rfl) rfl
theorem q1674 : (Jvm.Cond.fieldLink "QueryHarborModel" (50 : Nat) "QueryHarborModel" "used" "[I") ∈ lw_all := lw_g (lw_at lw_m7 150 rfl) rfl
theorem q1675 : (Jvm.Cond.fieldLink "QueryHarborModel" (53 : Nat) "QueryHarborModel" "fee" "[I") ∈ lw_all := lw_g (lw_at lw_m7 151 rfl) rfl
theorem q1676 : (Jvm.Cond.fieldLink "QueryHarborModel" (56 : Nat) "QueryHarborModel" "freight" "[I") ∈ lw_all := lw_g (lw_at lw_m7 152 rfl) rfl
theorem q1677 : (Jvm.Cond.fieldLink "QueryHarborModel" (59 : Nat) "QueryHarborModel" "forbidden" "[I") ∈ lw_all := lw_g (lw_at lw_m7 153 rfl) rfl
theorem q1678 : (Jvm.Cond.fieldLink "QueryHarborModel" (62 : Nat) "QueryHarborModel" "size" "[I") ∈ lw_all := lw_g (lw_at lw_m7 154 rfl) rfl
theorem q1679 : (Jvm.Cond.fieldLink "QueryHarborModel" (299 : Nat) "QueryHarborModel" "seats" "I") ∈ lw_all := lw_g (lw_at lw_m7 155 rfl) rfl
theorem q1680 : (Jvm.Cond.fieldLink "QueryHarborModel" (65 : Nat) "QueryHarborModel" "source" "[I") ∈ lw_all := lw_g (lw_at lw_m7 156 rfl) rfl
theorem q1681 : (Jvm.Cond.fieldLink "QueryHarborModel" (308 : Nat) "QueryHarborModel" "links" "I") ∈ lw_all := lw_g (lw_at lw_m7 157 rfl) rfl
theorem q1682 : (Jvm.Cond.fieldLink "QueryHarborModel" (68 : Nat) "QueryHarborModel" "linkSeat" "[I") ∈ lw_all := lw_g (lw_at lw_m7 158 rfl) rfl
theorem q1683 : (Jvm.Cond.fieldLink "QueryHarborModel" (71 : Nat) "QueryHarborModel" "linkColumn" "[I") ∈ lw_all := lw_g (lw_at lw_m7 159 rfl) rfl
theorem q1684 : (Jvm.Cond.fieldLink "QueryHarborModel" (74 : Nat) "QueryHarborModel" "linkOther" "[I") ∈ lw_all := lw_g (lw_at lw_m7 160 rfl) rfl
theorem q1685 : (Jvm.Cond.fieldLink "QueryHarborModel" (77 : Nat) "QueryHarborModel" "linkOtherColumn" "[I") ∈ lw_all := lw_g (lw_at lw_m7 161 rfl) rfl
theorem q1686 : (Jvm.Cond.fieldLink "QueryHarborModel" (311 : Nat) "QueryHarborModel" "conditions" "I") ∈ lw_all := lw_g (lw_at lw_m7 162 rfl) rfl
theorem q1687 : (Jvm.Cond.fieldLink "QueryHarborModel" (80 : Nat) "QueryHarborModel" "whereSeat" "[I") ∈ lw_all := lw_g (lw_at lw_m7 163 rfl) rfl
theorem q1688 : (Jvm.Cond.fieldLink "QueryHarborModel" (83 : Nat) "QueryHarborModel" "whereColumn" "[I") ∈ lw_all := lw_g (lw_at lw_m7 164 rfl) rfl
theorem q1689 : (Jvm.Cond.fieldLink "QueryHarborModel" (86 : Nat) "QueryHarborModel" "whereKind" "[I") ∈ lw_all := lw_g (lw_at lw_m7 165 rfl) rfl
theorem q1690 : (Jvm.Cond.fieldLink "QueryHarborModel" (89 : Nat) "QueryHarborModel" "whereNumber" "[I") ∈ lw_all := lw_g (lw_at lw_m7 166 rfl) rfl
theorem q1691 : (Jvm.Cond.fieldLink "QueryHarborModel" (314 : Nat) "QueryHarborModel" "outputs" "I") ∈ lw_all := lw_g (lw_at lw_m7 167 rfl) rfl
theorem q1692 : (Jvm.Cond.fieldLink "QueryHarborModel" (92 : Nat) "QueryHarborModel" "outSeat" "[I") ∈ lw_all := lw_g (lw_at lw_m7 168 rfl) rfl
theorem q1693 : (Jvm.Cond.fieldLink "QueryHarborModel" (95 : Nat) "QueryHarborModel" "outColumn" "[I") ∈ lw_all := lw_g (lw_at lw_m7 169 rfl) rfl
theorem q1694 : (Jvm.Cond.fieldLink "QueryHarborModel" (98 : Nat) "QueryHarborModel" "limit" "I") ∈ lw_all := lw_g (lw_at lw_m7 170 rfl) rfl
theorem q1695 : (Jvm.Cond.fieldLink "QueryHarborModel" (317 : Nat) "QueryHarborModel" "groups" "Z") ∈ lw_all := lw_g (lw_at lw_m7 171 rfl) rfl
theorem q1696 : (Jvm.Cond.fieldLink "QueryHarborModel" (232 : Nat) "QueryHarborModel" "entries" "I") ∈ lw_all := lw_g (lw_at lw_m7 172 rfl) rfl
theorem q1697 : (Jvm.Cond.fieldLink "QueryHarborModel" (102 : Nat) "QueryHarborModel" "entrySource" "[I") ∈ lw_all := lw_g (lw_at lw_m7 173 rfl) rfl
theorem q1698 : (Jvm.Cond.fieldLink "QueryHarborModel" (105 : Nat) "QueryHarborModel" "entryTick" "[I") ∈ lw_all := lw_g (lw_at lw_m7 174 rfl) rfl
theorem q1699 : (Jvm.Cond.fieldLink "QueryHarborModel" (108 : Nat) "QueryHarborModel" "entrySince" "[I") ∈ lw_all := lw_g (lw_at lw_m7 175 rfl) rfl
theorem q1700 : (Jvm.Cond.fieldLink "QueryHarborModel" (111 : Nat) "QueryHarborModel" "entryUntil" "[I") ∈ lw_all := lw_g (lw_at lw_m7 176 rfl) rfl
theorem q1701 : (Jvm.Cond.fieldLink "QueryHarborModel" (114 : Nat) "QueryHarborModel" "entryDrop" "[I") ∈ lw_all := lw_g (lw_at lw_m7 177 rfl) rfl
theorem q1702 : (Jvm.Cond.fieldLink "QueryHarborModel" (117 : Nat) "QueryHarborModel" "entryMany" "[I") ∈ lw_all := lw_g (lw_at lw_m7 178 rfl) rfl
theorem q1703 : (Jvm.Cond.fieldLink "QueryHarborModel" (120 : Nat) "QueryHarborModel" "entryMark" "[I") ∈ lw_all := lw_g (lw_at lw_m7 179 rfl) rfl
theorem q1704 : (Jvm.Cond.fieldLink "QueryHarborModel" (123 : Nat) "QueryHarborModel" "entryCells" "[I") ∈ lw_all := lw_g (lw_at lw_m7 180 rfl) rfl
theorem q1705 : (Jvm.Cond.fieldLink "QueryHarborModel" (126 : Nat) "QueryHarborModel" "entryConditions" "[I") ∈ lw_all := lw_g (lw_at lw_m7 181 rfl) rfl
theorem q1706 : (Jvm.Cond.fieldLink "QueryHarborModel" (129 : Nat) "QueryHarborModel" "entryColumn" "[I") ∈ lw_all := lw_g (lw_at lw_m7 182 rfl) rfl
theorem q1707 : (Jvm.Cond.fieldLink "QueryHarborModel" (132 : Nat) "QueryHarborModel" "entryKind" "[I") ∈ lw_all := lw_g (lw_at lw_m7 183 rfl) rfl
theorem q1708 : (Jvm.Cond.fieldLink "QueryHarborModel" (135 : Nat) "QueryHarborModel" "entryNumber" "[I") ∈ lw_all := lw_g (lw_at lw_m7 184 rfl) rfl
theorem q1709 : (Jvm.Cond.fieldLink "QueryHarborModel" (330 : Nat) "QueryHarborModel" "asked" "I") ∈ lw_all := lw_g (lw_at lw_m7 185 rfl) rfl
theorem q1710 : (Jvm.Cond.fieldLink "QueryHarborModel" (380 : Nat) "QueryHarborModel" "fresh" "I") ∈ lw_all := lw_g (lw_at lw_m7 186 rfl) rfl
theorem q1711 : (Jvm.Cond.fieldLink "QueryHarborModel" (333 : Nat) "QueryHarborModel" "deadline" "I") ∈ lw_all := lw_g (lw_at lw_m7 187 rfl) rfl
theorem q1712 : (Jvm.Cond.fieldLink "QueryHarborModel" (345 : Nat) "QueryHarborModel" "seatCost" "I") ∈ lw_all := lw_g (lw_at lw_m7 188 rfl) rfl
theorem q1713 : (Jvm.Cond.fieldLink "QueryHarborModel" (138 : Nat) "QueryHarborModel" "isTaken" "[Z") ∈ lw_all := lw_g (lw_at lw_m7 189 rfl) rfl
theorem q1714 : (Jvm.Cond.fieldLink "QueryHarborModel" (141 : Nat) "QueryHarborModel" "seatMany" "[I") ∈ lw_all := lw_g (lw_at lw_m7 190 rfl) rfl
theorem q1715 : (Jvm.Cond.fieldLink "QueryHarborModel" (144 : Nat) "QueryHarborModel" "seatMark" "[I") ∈ lw_all := lw_g (lw_at lw_m7 191 rfl) rfl
theorem q1716 : (Jvm.Cond.fieldLink "QueryHarborModel" (147 : Nat) "QueryHarborModel" "seatCells" "[I") ∈ lw_all := lw_g (lw_at lw_m7 192 rfl) rfl
theorem q1717 : (Jvm.Cond.fieldLink "QueryHarborModel" (150 : Nat) "QueryHarborModel" "since" "[I") ∈ lw_all := lw_g (lw_at lw_m7 193 rfl) rfl
theorem q1718 : (Jvm.Cond.fieldLink "QueryHarborModel" (153 : Nat) "QueryHarborModel" "until" "[I") ∈ lw_all := lw_g (lw_at lw_m7 194 rfl) rfl
theorem q1719 : (Jvm.Cond.fieldLink "QueryHarborModel" (352 : Nat) "QueryHarborModel" "isCut" "Z") ∈ lw_all := lw_g (lw_at lw_m7 195 rfl) rfl
theorem q1720 : (Jvm.Cond.fieldLink "QueryHarborModel" (396 : Nat) "QueryHarborModel" "keys" "I") ∈ lw_all := lw_g (lw_at lw_m7 196 rfl) rfl
theorem q1721 : (Jvm.Cond.fieldLink "QueryHarborModel" (156 : Nat) "QueryHarborModel" "key" "[I") ∈ lw_all := lw_g (lw_at lw_m7 197 rfl) rfl
theorem q1722 : (Jvm.Cond.fieldLink "QueryHarborModel" (159 : Nat) "QueryHarborModel" "rowMany" "[I") ∈ lw_all := lw_g (lw_at lw_m7 198 rfl) rfl
theorem q1723 : (Jvm.Cond.fieldLink "QueryHarborModel" (162 : Nat) "QueryHarborModel" "rowCells" "[I") ∈ lw_all := lw_g (lw_at lw_m7 199 rfl) rfl
theorem q1724 : (Jvm.Cond.fieldLink "QueryHarborModel" (165 : Nat) "QueryHarborModel" "at" "[I") ∈ lw_all := lw_g (lw_at lw_m7 200 rfl) rfl
theorem q1725 : (Jvm.Cond.fieldLink "QueryHarborModel" (429 : Nat) "QueryHarborModel" "made" "I") ∈ lw_all := lw_g (lw_at lw_m7 201 rfl) rfl
theorem q1726 : (Jvm.Cond.fieldLink "QueryHarborModel" (442 : Nat) "QueryHarborModel" "madeWide" "I") ∈ lw_all := lw_g (lw_at lw_m7 202 rfl) rfl
theorem q1727 : (Jvm.Cond.fieldLink "QueryHarborModel" (168 : Nat) "QueryHarborModel" "madeCells" "[I") ∈ lw_all := lw_g (lw_at lw_m7 203 rfl) rfl
theorem q1728 : (Jvm.Cond.fieldLink "QueryHarborModel" (432 : Nat) "QueryHarborModel" "grouped" "I") ∈ lw_all := lw_g (lw_at lw_m7 204 rfl) rfl
theorem q1729 : (Jvm.Cond.fieldLink "QueryHarborModel" (171 : Nat) "QueryHarborModel" "groupCell" "[I") ∈ lw_all := lw_g (lw_at lw_m7 205 rfl) rfl
theorem q1730 : (Jvm.Cond.fieldLink "QueryHarborModel" (174 : Nat) "QueryHarborModel" "groupMany" "[I") ∈ lw_all := lw_g (lw_at lw_m7 206 rfl) rfl
theorem q1731 : (Jvm.Cond.fieldLink "QueryHarborModel" (177 : Nat) "QueryHarborModel" "groupSum" "[I") ∈ lw_all := lw_g (lw_at lw_m7 207 rfl) rfl
theorem q1732 : (Jvm.Cond.fieldLink "QueryHarborModel" (475 : Nat) "QueryHarborModel" "answers" "I") ∈ lw_all := lw_g (lw_at lw_m7 208 rfl) rfl
theorem q1733 : (Jvm.Cond.fieldLink "QueryHarborModel" (478 : Nat) "QueryHarborModel" "answerWide" "I") ∈ lw_all := lw_g (lw_at lw_m7 209 rfl) rfl
theorem q1734 : (Jvm.Cond.fieldLink "QueryHarborModel" (180 : Nat) "QueryHarborModel" "answerCells" "[I") ∈ lw_all := lw_g (lw_at lw_m7 210 rfl) rfl
theorem q1735 : (Jvm.Cond.fieldLink "QueryHarborModel" (420 : Nat) "QueryHarborModel" "open" "I") ∈ lw_all := lw_g (lw_at lw_m7 211 rfl) rfl
theorem q1736 : (Jvm.Cond.fieldLink "QueryHarborModel" (183 : Nat) "QueryHarborModel" "claims" "I") ∈ lw_all := lw_g (lw_at lw_m7 212 rfl) rfl
theorem q1737 : (Jvm.Cond.fieldLink "QueryHarborModel" (342 : Nat) "QueryHarborModel" "cost" "I") ∈ lw_all := lw_g (lw_at lw_m7 213 rfl) rfl
theorem q1738 : (Jvm.Cond.fieldLink "QueryHarborModel" (336 : Nat) "QueryHarborModel" "attempts" "I") ∈ lw_all := lw_g (lw_at lw_m7 214 rfl) rfl
theorem q1739 : (Jvm.Cond.fieldLink "QueryHarborModel" (364 : Nat) "QueryHarborModel" "shipped" "I") ∈ lw_all := lw_g (lw_at lw_m7 215 rfl) rfl
theorem q1740 : (Jvm.Cond.fieldLink "QueryHarborModel" (423 : Nat) "QueryHarborModel" "taken" "I") ∈ lw_all := lw_g (lw_at lw_m7 216 rfl) rfl
theorem q1741 : (Jvm.Cond.fieldLink "QueryHarborModel" (186 : Nat) "QueryHarborModel" "takenHow" "[I") ∈ lw_all := lw_g (lw_at lw_m7 217 rfl) rfl
theorem q1742 : (Jvm.Cond.fieldLink "QueryHarborModel" (484 : Nat) "QueryHarborModel" "steps" "I") ∈ lw_all := lw_g (lw_at lw_m7 218 rfl) rfl
theorem q1743 : (Jvm.Cond.fieldLink "QueryHarborModel" (189 : Nat) "QueryHarborModel" "stepKind" "[I") ∈ lw_all := lw_g (lw_at lw_m7 219 rfl) rfl
theorem q1744 : (Jvm.Cond.fieldLink "QueryHarborModel" (192 : Nat) "QueryHarborModel" "stepSource" "[I") ∈ lw_all := lw_g (lw_at lw_m7 220 rfl) rfl
theorem q1745 : (Jvm.Cond.fieldLink "QueryHarborModel" (195 : Nat) "QueryHarborModel" "stepA" "[I") ∈ lw_all := lw_g (lw_at lw_m7 221 rfl) rfl
theorem q1746 : (Jvm.Cond.fieldLink "QueryHarborModel" (198 : Nat) "QueryHarborModel" "stepB" "[I") ∈ lw_all := lw_g (lw_at lw_m7 222 rfl) rfl
theorem q1747 : (Jvm.Cond.fieldLink "QueryHarborModel" (201 : Nat) "QueryHarborModel" "stepC" "[I") ∈ lw_all := lw_g (lw_at lw_m7 223 rfl) rfl
theorem q1748 : (Jvm.Cond.fieldLink "QueryHarborModel" (204 : Nat) "QueryHarborModel" "stepD" "[I") ∈ lw_all := lw_g (lw_at lw_m7 224 rfl) rfl
theorem q1749 : (Jvm.Cond.fieldLink "QueryHarborModel" (207 : Nat) "QueryHarborModel" "wasMark" "[I") ∈ lw_all := lw_g (lw_at lw_m7 225 rfl) rfl
theorem q1750 : (Jvm.Cond.fieldLink "QueryHarborModel" (210 : Nat) "QueryHarborModel" "wasCells" "[I") ∈ lw_all := lw_g (lw_at lw_m7 226 rfl) rfl
theorem q1751 : (Jvm.Cond.lays "QueryHarborModel" "QueryHarborModel" "thrown" "I") ∈ lw_all := lw_g (lw_at lw_m7 227 rfl) rfl
theorem q1752 : (Jvm.Cond.soleField "QueryHarborModel" "thrown") ∈ lw_all := lw_g (lw_at lw_m7 228 rfl) rfl
theorem q1753 : (Jvm.Cond.laysFinal "QueryHarborModel" "QueryHarborModel" "many" "[I") ∈ lw_all := lw_g (lw_at lw_m7 229 rfl) rfl
theorem q1754 : (Jvm.Cond.soleField "QueryHarborModel" "many") ∈ lw_all := lw_g (lw_at lw_m7 230 rfl) rfl
theorem q1755 : (Jvm.Cond.laysFinal "QueryHarborModel" "QueryHarborModel" "mark" "[I") ∈ lw_all := lw_g (lw_at lw_m7 231 rfl) rfl
theorem q1756 : (Jvm.Cond.soleField "QueryHarborModel" "mark") ∈ lw_all := lw_g (lw_at lw_m7 232 rfl) rfl
theorem q1757 : (Jvm.Cond.laysFinal "QueryHarborModel" "QueryHarborModel" "cells" "[I") ∈ lw_all := lw_g (lw_at lw_m7 233 rfl) rfl
theorem q1758 : (Jvm.Cond.soleField "QueryHarborModel" "cells") ∈ lw_all := lw_g (lw_at lw_m7 234 rfl) rfl
theorem q1759 : (Jvm.Cond.laysFinal "QueryHarborModel" "QueryHarborModel" "added" "[I") ∈ lw_all := lw_g (lw_at lw_m7 235 rfl) rfl
theorem q1760 : (Jvm.Cond.soleField "QueryHarborModel" "added") ∈ lw_all := lw_g (lw_at lw_m7 236 rfl) rfl
theorem q1761 : (Jvm.Cond.laysFinal "QueryHarborModel" "QueryHarborModel" "lastWrite" "[I") ∈ lw_all := lw_g (lw_at lw_m7 237 rfl) rfl
theorem q1762 : (Jvm.Cond.soleField "QueryHarborModel" "lastWrite") ∈ lw_all := lw_g (lw_at lw_m7 238 rfl) rfl
theorem q1763 : (Jvm.Cond.lays "QueryHarborModel" "QueryHarborModel" "losses" "I") ∈ lw_all := lw_g (lw_at lw_m7 239 rfl) rfl
theorem q1764 : (Jvm.Cond.soleField "QueryHarborModel" "losses") ∈ lw_all := lw_g (lw_at lw_m8 0 rfl) rfl
theorem q1765 : (Jvm.Cond.lays "QueryHarborModel" "QueryHarborModel" "moment" "I") ∈ lw_all := lw_g (lw_at lw_m8 1 rfl) rfl
theorem q1766 : (Jvm.Cond.soleField "QueryHarborModel" "moment") ∈ lw_all := lw_g (lw_at lw_m8 2 rfl) rfl
theorem q1767 : (Jvm.Cond.lays "QueryHarborModel" "QueryHarborModel" "now" "I") ∈ lw_all := lw_g (lw_at lw_m8 3 rfl) rfl
theorem q1768 : (Jvm.Cond.soleField "QueryHarborModel" "now") ∈ lw_all := lw_g (lw_at lw_m8 4 rfl) rfl
theorem q1769 : (Jvm.Cond.laysFinal "QueryHarborModel" "QueryHarborModel" "delay" "[I") ∈ lw_all := lw_g (lw_at lw_m8 5 rfl) rfl
theorem q1770 : (Jvm.Cond.soleField "QueryHarborModel" "delay") ∈ lw_all := lw_g (lw_at lw_m8 6 rfl) rfl
theorem q1771 : (Jvm.Cond.laysFinal "QueryHarborModel" "QueryHarborModel" "lag" "[I") ∈ lw_all := lw_g (lw_at lw_m8 7 rfl) rfl
theorem q1772 : (Jvm.Cond.soleField "QueryHarborModel" "lag") ∈ lw_all := lw_g (lw_at lw_m8 8 rfl) rfl
theorem q1773 : (Jvm.Cond.laysFinal "QueryHarborModel" "QueryHarborModel" "quota" "[I") ∈ lw_all := lw_g (lw_at lw_m8 9 rfl) rfl
theorem q1774 : (Jvm.Cond.soleField "QueryHarborModel" "quota") ∈ lw_all := lw_g (lw_at lw_m8 10 rfl) rfl
theorem q1775 : (Jvm.Cond.laysFinal "QueryHarborModel" "QueryHarborModel" "cap" "[I") ∈ lw_all := lw_g (lw_at lw_m8 11 rfl) rfl
theorem q1776 : (Jvm.Cond.soleField "QueryHarborModel" "cap") ∈ lw_all := lw_g (lw_at lw_m8 12 rfl) rfl
theorem q1777 : (Jvm.Cond.laysFinal "QueryHarborModel" "QueryHarborModel" "lease" "[I") ∈ lw_all := lw_g (lw_at lw_m8 13 rfl) rfl
theorem q1778 : (Jvm.Cond.soleField "QueryHarborModel" "lease") ∈ lw_all := lw_g (lw_at lw_m8 14 rfl) rfl
theorem q1779 : (Jvm.Cond.laysFinal "QueryHarborModel" "QueryHarborModel" "failing" "[I") ∈ lw_all := lw_g (lw_at lw_m8 15 rfl) rfl
theorem q1780 : (Jvm.Cond.soleField "QueryHarborModel" "failing") ∈ lw_all := lw_g (lw_at lw_m8 16 rfl) rfl
theorem q1781 : (Jvm.Cond.laysFinal "QueryHarborModel" "QueryHarborModel" "doesIt" "[Z") ∈ lw_all := lw_g (lw_at lw_m8 17 rfl) rfl
theorem q1782 : (Jvm.Cond.soleField "QueryHarborModel" "doesIt") ∈ lw_all := lw_g (lw_at lw_m8 18 rfl) rfl
theorem q1783 : (Jvm.Cond.laysFinal "QueryHarborModel" "QueryHarborModel" "window" "[I") ∈ lw_all := lw_g (lw_at lw_m8 19 rfl) rfl
theorem q1784 : (Jvm.Cond.soleField "QueryHarborModel" "window") ∈ lw_all := lw_g (lw_at lw_m8 20 rfl) rfl
theorem q1785 : (Jvm.Cond.laysFinal "QueryHarborModel" "QueryHarborModel" "used" "[I") ∈ lw_all := lw_g (lw_at lw_m8 21 rfl) rfl
theorem q1786 : (Jvm.Cond.soleField "QueryHarborModel" "used") ∈ lw_all := lw_g (lw_at lw_m8 22 rfl) rfl
theorem q1787 : (Jvm.Cond.laysFinal "QueryHarborModel" "QueryHarborModel" "fee" "[I") ∈ lw_all := lw_g (lw_at lw_m8 23 rfl) rfl
theorem q1788 : (Jvm.Cond.soleField "QueryHarborModel" "fee") ∈ lw_all := lw_g (lw_at lw_m8 24 rfl) rfl
theorem q1789 : (Jvm.Cond.laysFinal "QueryHarborModel" "QueryHarborModel" "freight" "[I") ∈ lw_all := lw_g (lw_at lw_m8 25 rfl) rfl
theorem q1790 : (Jvm.Cond.soleField "QueryHarborModel" "freight") ∈ lw_all := lw_g (lw_at lw_m8 26 rfl) rfl
theorem q1791 : (Jvm.Cond.laysFinal "QueryHarborModel" "QueryHarborModel" "forbidden" "[I") ∈ lw_all := lw_g (lw_at lw_m8 27 rfl) rfl
theorem q1792 : (Jvm.Cond.soleField "QueryHarborModel" "forbidden") ∈ lw_all := lw_g (lw_at lw_m8 28 rfl) rfl
theorem q1793 : (Jvm.Cond.laysFinal "QueryHarborModel" "QueryHarborModel" "size" "[I") ∈ lw_all := lw_g (lw_at lw_m8 29 rfl) rfl
theorem q1794 : (Jvm.Cond.soleField "QueryHarborModel" "size") ∈ lw_all := lw_g (lw_at lw_m8 30 rfl) rfl
theorem q1795 : (Jvm.Cond.lays "QueryHarborModel" "QueryHarborModel" "seats" "I") ∈ lw_all := lw_g (lw_at lw_m8 31 rfl) rfl
theorem q1796 : (Jvm.Cond.soleField "QueryHarborModel" "seats") ∈ lw_all := lw_g (lw_at lw_m8 32 rfl) rfl
theorem q1797 : (Jvm.Cond.laysFinal "QueryHarborModel" "QueryHarborModel" "source" "[I") ∈ lw_all := lw_g (lw_at lw_m8 33 rfl) rfl
theorem q1798 : (Jvm.Cond.soleField "QueryHarborModel" "source") ∈ lw_all := lw_g (lw_at lw_m8 34 rfl) rfl
theorem q1799 : (Jvm.Cond.lays "QueryHarborModel" "QueryHarborModel" "links" "I") ∈ lw_all := lw_g (lw_at lw_m8 35 rfl) rfl
theorem q1800 : (Jvm.Cond.soleField "QueryHarborModel" "links") ∈ lw_all := lw_g (lw_at lw_m8 36 rfl) rfl
theorem q1801 : (Jvm.Cond.laysFinal "QueryHarborModel" "QueryHarborModel" "linkSeat" "[I") ∈ lw_all := lw_g (lw_at lw_m8 37 rfl) rfl
theorem q1802 : (Jvm.Cond.soleField "QueryHarborModel" "linkSeat") ∈ lw_all := lw_g (lw_at lw_m8 38 rfl) rfl
theorem q1803 : (Jvm.Cond.laysFinal "QueryHarborModel" "QueryHarborModel" "linkColumn" "[I") ∈ lw_all := lw_g (lw_at lw_m8 39 rfl) rfl
theorem q1804 : (Jvm.Cond.soleField "QueryHarborModel" "linkColumn") ∈ lw_all := lw_g (lw_at lw_m8 40 rfl) rfl
theorem q1805 : (Jvm.Cond.laysFinal "QueryHarborModel" "QueryHarborModel" "linkOther" "[I") ∈ lw_all := lw_g (lw_at lw_m8 41 rfl) rfl
theorem q1806 : (Jvm.Cond.soleField "QueryHarborModel" "linkOther") ∈ lw_all := lw_g (lw_at lw_m8 42 rfl) rfl
theorem q1807 : (Jvm.Cond.laysFinal "QueryHarborModel" "QueryHarborModel" "linkOtherColumn" "[I") ∈ lw_all := lw_g (lw_at lw_m8 43 rfl) rfl
theorem q1808 : (Jvm.Cond.soleField "QueryHarborModel" "linkOtherColumn") ∈ lw_all := lw_g (lw_at lw_m8 44 rfl) rfl
theorem q1809 : (Jvm.Cond.lays "QueryHarborModel" "QueryHarborModel" "conditions" "I") ∈ lw_all := lw_g (lw_at lw_m8 45 rfl) rfl
theorem q1810 : (Jvm.Cond.soleField "QueryHarborModel" "conditions") ∈ lw_all := lw_g (lw_at lw_m8 46 rfl) rfl
theorem q1811 : (Jvm.Cond.laysFinal "QueryHarborModel" "QueryHarborModel" "whereSeat" "[I") ∈ lw_all := lw_g (lw_at lw_m8 47 rfl) rfl
theorem q1812 : (Jvm.Cond.soleField "QueryHarborModel" "whereSeat") ∈ lw_all := lw_g (lw_at lw_m8 48 rfl) rfl
theorem q1813 : (Jvm.Cond.laysFinal "QueryHarborModel" "QueryHarborModel" "whereColumn" "[I") ∈ lw_all := lw_g (lw_at lw_m8 49 rfl) rfl
theorem q1814 : (Jvm.Cond.soleField "QueryHarborModel" "whereColumn") ∈ lw_all := lw_g (lw_at lw_m8 50 rfl) rfl
theorem q1815 : (Jvm.Cond.laysFinal "QueryHarborModel" "QueryHarborModel" "whereKind" "[I") ∈ lw_all := lw_g (lw_at lw_m8 51 rfl) rfl
theorem q1816 : (Jvm.Cond.soleField "QueryHarborModel" "whereKind") ∈ lw_all := lw_g (lw_at lw_m8 52 rfl) rfl
theorem q1817 : (Jvm.Cond.laysFinal "QueryHarborModel" "QueryHarborModel" "whereNumber" "[I") ∈ lw_all := lw_g (lw_at lw_m8 53 rfl) rfl
theorem q1818 : (Jvm.Cond.soleField "QueryHarborModel" "whereNumber") ∈ lw_all := lw_g (lw_at lw_m8 54 rfl) rfl
theorem q1819 : (Jvm.Cond.lays "QueryHarborModel" "QueryHarborModel" "outputs" "I") ∈ lw_all := lw_g (lw_at lw_m8 55 rfl) rfl
theorem q1820 : (Jvm.Cond.soleField "QueryHarborModel" "outputs") ∈ lw_all := lw_g (lw_at lw_m8 56 rfl) rfl
theorem q1821 : (Jvm.Cond.laysFinal "QueryHarborModel" "QueryHarborModel" "outSeat" "[I") ∈ lw_all := lw_g (lw_at lw_m8 57 rfl) rfl
theorem q1822 : (Jvm.Cond.soleField "QueryHarborModel" "outSeat") ∈ lw_all := lw_g (lw_at lw_m8 58 rfl) rfl
theorem q1823 : (Jvm.Cond.laysFinal "QueryHarborModel" "QueryHarborModel" "outColumn" "[I") ∈ lw_all := lw_g (lw_at lw_m8 59 rfl) rfl
theorem q1824 : (Jvm.Cond.soleField "QueryHarborModel" "outColumn") ∈ lw_all := lw_g (lw_at lw_m8 60 rfl) rfl
theorem q1825 : (Jvm.Cond.lays "QueryHarborModel" "QueryHarborModel" "limit" "I") ∈ lw_all := lw_g (lw_at lw_m8 61 rfl) rfl
theorem q1826 : (Jvm.Cond.soleField "QueryHarborModel" "limit") ∈ lw_all := lw_g (lw_at lw_m8 62 rfl) rfl
theorem q1827 : (Jvm.Cond.lays "QueryHarborModel" "QueryHarborModel" "groups" "Z") ∈ lw_all := lw_g (lw_at lw_m8 63 rfl) rfl
theorem q1828 : (Jvm.Cond.soleField "QueryHarborModel" "groups") ∈ lw_all := lw_g (lw_at lw_m8 64 rfl) rfl
theorem q1829 : (Jvm.Cond.lays "QueryHarborModel" "QueryHarborModel" "entries" "I") ∈ lw_all := lw_g (lw_at lw_m8 65 rfl) rfl
theorem q1830 : (Jvm.Cond.soleField "QueryHarborModel" "entries") ∈ lw_all := lw_g (lw_at lw_m8 66 rfl) rfl
theorem q1831 : (Jvm.Cond.laysFinal "QueryHarborModel" "QueryHarborModel" "entrySource" "[I") ∈ lw_all := lw_g (lw_at lw_m8 67 rfl) rfl
theorem q1832 : (Jvm.Cond.soleField "QueryHarborModel" "entrySource") ∈ lw_all := lw_g (lw_at lw_m8 68 rfl) rfl
theorem q1833 : (Jvm.Cond.laysFinal "QueryHarborModel" "QueryHarborModel" "entryTick" "[I") ∈ lw_all := lw_g (lw_at lw_m8 69 rfl) rfl
theorem q1834 : (Jvm.Cond.soleField "QueryHarborModel" "entryTick") ∈ lw_all := lw_g (lw_at lw_m8 70 rfl) rfl
theorem q1835 : (Jvm.Cond.laysFinal "QueryHarborModel" "QueryHarborModel" "entrySince" "[I") ∈ lw_all := lw_g (lw_at lw_m8 71 rfl) rfl
theorem q1836 : (Jvm.Cond.soleField "QueryHarborModel" "entrySince") ∈ lw_all := lw_g (lw_at lw_m8 72 rfl) rfl
theorem q1837 : (Jvm.Cond.laysFinal "QueryHarborModel" "QueryHarborModel" "entryUntil" "[I") ∈ lw_all := lw_g (lw_at lw_m8 73 rfl) rfl
theorem q1838 : (Jvm.Cond.soleField "QueryHarborModel" "entryUntil") ∈ lw_all := lw_g (lw_at lw_m8 74 rfl) rfl
theorem q1839 : (Jvm.Cond.laysFinal "QueryHarborModel" "QueryHarborModel" "entryDrop" "[I") ∈ lw_all := lw_g (lw_at lw_m8 75 rfl) rfl
theorem q1840 : (Jvm.Cond.soleField "QueryHarborModel" "entryDrop") ∈ lw_all := lw_g (lw_at lw_m8 76 rfl) rfl
theorem q1841 : (Jvm.Cond.laysFinal "QueryHarborModel" "QueryHarborModel" "entryMany" "[I") ∈ lw_all := lw_g (lw_at lw_m8 77 rfl) rfl
theorem q1842 : (Jvm.Cond.soleField "QueryHarborModel" "entryMany") ∈ lw_all := lw_g (lw_at lw_m8 78 rfl) rfl
theorem q1843 : (Jvm.Cond.laysFinal "QueryHarborModel" "QueryHarborModel" "entryMark" "[I") ∈ lw_all := lw_g (lw_at lw_m8 79 rfl) rfl
theorem q1844 : (Jvm.Cond.soleField "QueryHarborModel" "entryMark") ∈ lw_all := lw_g (lw_at lw_m8 80 rfl) rfl
theorem q1845 : (Jvm.Cond.laysFinal "QueryHarborModel" "QueryHarborModel" "entryCells" "[I") ∈ lw_all := lw_g (lw_at lw_m8 81 rfl) rfl
theorem q1846 : (Jvm.Cond.soleField "QueryHarborModel" "entryCells") ∈ lw_all := lw_g (lw_at lw_m8 82 rfl) rfl
theorem q1847 : (Jvm.Cond.laysFinal "QueryHarborModel" "QueryHarborModel" "entryConditions" "[I") ∈ lw_all := lw_g (lw_at lw_m8 83 rfl) rfl
theorem q1848 : (Jvm.Cond.soleField "QueryHarborModel" "entryConditions") ∈ lw_all := lw_g (lw_at lw_m8 84 rfl) rfl
theorem q1849 : (Jvm.Cond.laysFinal "QueryHarborModel" "QueryHarborModel" "entryColumn" "[I") ∈ lw_all := lw_g (lw_at lw_m8 85 rfl) rfl
theorem q1850 : (Jvm.Cond.soleField "QueryHarborModel" "entryColumn") ∈ lw_all := lw_g (lw_at lw_m8 86 rfl) rfl
theorem q1851 : (Jvm.Cond.laysFinal "QueryHarborModel" "QueryHarborModel" "entryKind" "[I") ∈ lw_all := lw_g (lw_at lw_m8 87 rfl) rfl
theorem q1852 : (Jvm.Cond.soleField "QueryHarborModel" "entryKind") ∈ lw_all := lw_g (lw_at lw_m8 88 rfl) rfl
theorem q1853 : (Jvm.Cond.laysFinal "QueryHarborModel" "QueryHarborModel" "entryNumber" "[I") ∈ lw_all := lw_g (lw_at lw_m8 89 rfl) rfl
theorem q1854 : (Jvm.Cond.soleField "QueryHarborModel" "entryNumber") ∈ lw_all := lw_g (lw_at lw_m8 90 rfl) rfl
theorem q1855 : (Jvm.Cond.lays "QueryHarborModel" "QueryHarborModel" "asked" "I") ∈ lw_all := lw_g (lw_at lw_m8 91 rfl) rfl
theorem q1856 : (Jvm.Cond.soleField "QueryHarborModel" "asked") ∈ lw_all := lw_g (lw_at lw_m8 92 rfl) rfl
theorem q1857 : (Jvm.Cond.lays "QueryHarborModel" "QueryHarborModel" "fresh" "I") ∈ lw_all := lw_g (lw_at lw_m8 93 rfl) rfl
theorem q1858 : (Jvm.Cond.soleField "QueryHarborModel" "fresh") ∈ lw_all := lw_g (lw_at lw_m8 94 rfl) rfl
theorem q1859 : (Jvm.Cond.lays "QueryHarborModel" "QueryHarborModel" "deadline" "I") ∈ lw_all := lw_g (lw_at lw_m8 95 rfl) rfl
theorem q1860 : (Jvm.Cond.soleField "QueryHarborModel" "deadline") ∈ lw_all := lw_g (lw_at lw_m8 96 rfl) rfl
theorem q1861 : (Jvm.Cond.lays "QueryHarborModel" "QueryHarborModel" "seatCost" "I") ∈ lw_all := lw_g (lw_at lw_m8 97 rfl) rfl
theorem q1862 : (Jvm.Cond.soleField "QueryHarborModel" "seatCost") ∈ lw_all := lw_g (lw_at lw_m8 98 rfl) rfl
theorem q1863 : (Jvm.Cond.laysFinal "QueryHarborModel" "QueryHarborModel" "isTaken" "[Z") ∈ lw_all := lw_g (lw_at lw_m8 99 rfl) rfl
theorem q1864 : (Jvm.Cond.soleField "QueryHarborModel" "isTaken") ∈ lw_all := lw_g (lw_at lw_m8 100 rfl) rfl
theorem q1865 : (Jvm.Cond.laysFinal "QueryHarborModel" "QueryHarborModel" "seatMany" "[I") ∈ lw_all := lw_g (lw_at lw_m8 101 rfl) rfl
theorem q1866 : (Jvm.Cond.soleField "QueryHarborModel" "seatMany") ∈ lw_all := lw_g (lw_at lw_m8 102 rfl) rfl
theorem q1867 : (Jvm.Cond.laysFinal "QueryHarborModel" "QueryHarborModel" "seatMark" "[I") ∈ lw_all := lw_g (lw_at lw_m8 103 rfl) rfl
theorem q1868 : (Jvm.Cond.soleField "QueryHarborModel" "seatMark") ∈ lw_all := lw_g (lw_at lw_m8 104 rfl) rfl
theorem q1869 : (Jvm.Cond.laysFinal "QueryHarborModel" "QueryHarborModel" "seatCells" "[I") ∈ lw_all := lw_g (lw_at lw_m8 105 rfl) rfl
theorem q1870 : (Jvm.Cond.soleField "QueryHarborModel" "seatCells") ∈ lw_all := lw_g (lw_at lw_m8 106 rfl) rfl
theorem q1871 : (Jvm.Cond.laysFinal "QueryHarborModel" "QueryHarborModel" "since" "[I") ∈ lw_all := lw_g (lw_at lw_m8 107 rfl) rfl
theorem q1872 : (Jvm.Cond.soleField "QueryHarborModel" "since") ∈ lw_all := lw_g (lw_at lw_m8 108 rfl) rfl
theorem q1873 : (Jvm.Cond.laysFinal "QueryHarborModel" "QueryHarborModel" "until" "[I") ∈ lw_all := lw_g (lw_at lw_m8 109 rfl) rfl
theorem q1874 : (Jvm.Cond.soleField "QueryHarborModel" "until") ∈ lw_all := lw_g (lw_at lw_m8 110 rfl) rfl
theorem q1875 : (Jvm.Cond.lays "QueryHarborModel" "QueryHarborModel" "isCut" "Z") ∈ lw_all := lw_g (lw_at lw_m8 111 rfl) rfl
theorem q1876 : (Jvm.Cond.soleField "QueryHarborModel" "isCut") ∈ lw_all := lw_g (lw_at lw_m8 112 rfl) rfl
theorem q1877 : (Jvm.Cond.lays "QueryHarborModel" "QueryHarborModel" "keys" "I") ∈ lw_all := lw_g (lw_at lw_m8 113 rfl) rfl
theorem q1878 : (Jvm.Cond.soleField "QueryHarborModel" "keys") ∈ lw_all := lw_g (lw_at lw_m8 114 rfl) rfl
theorem q1879 : (Jvm.Cond.laysFinal "QueryHarborModel" "QueryHarborModel" "key" "[I") ∈ lw_all := lw_g (lw_at lw_m8 115 rfl) rfl
theorem q1880 : (Jvm.Cond.soleField "QueryHarborModel" "key") ∈ lw_all := lw_g (lw_at lw_m8 116 rfl) rfl
theorem q1881 : (Jvm.Cond.laysFinal "QueryHarborModel" "QueryHarborModel" "rowMany" "[I") ∈ lw_all := lw_g (lw_at lw_m8 117 rfl) rfl
theorem q1882 : (Jvm.Cond.soleField "QueryHarborModel" "rowMany") ∈ lw_all := lw_g (lw_at lw_m8 118 rfl) rfl
theorem q1883 : (Jvm.Cond.laysFinal "QueryHarborModel" "QueryHarborModel" "rowCells" "[I") ∈ lw_all := lw_g (lw_at lw_m8 119 rfl) rfl
theorem q1884 : (Jvm.Cond.soleField "QueryHarborModel" "rowCells") ∈ lw_all := lw_g (lw_at lw_m8 120 rfl) rfl
theorem q1885 : (Jvm.Cond.laysFinal "QueryHarborModel" "QueryHarborModel" "at" "[I") ∈ lw_all := lw_g (lw_at lw_m8 121 rfl) rfl
theorem q1886 : (Jvm.Cond.soleField "QueryHarborModel" "at") ∈ lw_all := lw_g (lw_at lw_m8 122 rfl) rfl
theorem q1887 : (Jvm.Cond.lays "QueryHarborModel" "QueryHarborModel" "made" "I") ∈ lw_all := lw_g (lw_at lw_m8 123 rfl) rfl
theorem q1888 : (Jvm.Cond.soleField "QueryHarborModel" "made") ∈ lw_all := lw_g (lw_at lw_m8 124 rfl) rfl
theorem q1889 : (Jvm.Cond.lays "QueryHarborModel" "QueryHarborModel" "madeWide" "I") ∈ lw_all := lw_g (lw_at lw_m8 125 rfl) rfl
theorem q1890 : (Jvm.Cond.soleField "QueryHarborModel" "madeWide") ∈ lw_all := lw_g (lw_at lw_m8 126 rfl) rfl
theorem q1891 : (Jvm.Cond.laysFinal "QueryHarborModel" "QueryHarborModel" "madeCells" "[I") ∈ lw_all := lw_g (lw_at lw_m8 127 rfl) rfl
theorem q1892 : (Jvm.Cond.soleField "QueryHarborModel" "madeCells") ∈ lw_all := lw_g (lw_at lw_m8 128 rfl) rfl
theorem q1893 : (Jvm.Cond.lays "QueryHarborModel" "QueryHarborModel" "grouped" "I") ∈ lw_all := lw_g (lw_at lw_m8 129 rfl) rfl
theorem q1894 : (Jvm.Cond.soleField "QueryHarborModel" "grouped") ∈ lw_all := lw_g (lw_at lw_m8 130 rfl) rfl
theorem q1895 : (Jvm.Cond.laysFinal "QueryHarborModel" "QueryHarborModel" "groupCell" "[I") ∈ lw_all := lw_g (lw_at lw_m8 131 rfl) rfl
theorem q1896 : (Jvm.Cond.soleField "QueryHarborModel" "groupCell") ∈ lw_all := lw_g (lw_at lw_m8 132 rfl) rfl
theorem q1897 : (Jvm.Cond.laysFinal "QueryHarborModel" "QueryHarborModel" "groupMany" "[I") ∈ lw_all := lw_g (lw_at lw_m8 133 rfl) rfl
theorem q1898 : (Jvm.Cond.soleField "QueryHarborModel" "groupMany") ∈ lw_all := lw_g (lw_at lw_m8 134 rfl) rfl
theorem q1899 : (Jvm.Cond.laysFinal "QueryHarborModel" "QueryHarborModel" "groupSum" "[I") ∈ lw_all := lw_g (lw_at lw_m8 135 rfl) rfl
theorem q1900 : (Jvm.Cond.soleField "QueryHarborModel" "groupSum") ∈ lw_all := lw_g (lw_at lw_m8 136 rfl) rfl
theorem q1901 : (Jvm.Cond.lays "QueryHarborModel" "QueryHarborModel" "answers" "I") ∈ lw_all := lw_g (lw_at lw_m8 137 rfl) rfl
theorem q1902 : (Jvm.Cond.soleField "QueryHarborModel" "answers") ∈ lw_all := lw_g (lw_at lw_m8 138 rfl) rfl
theorem q1903 : (Jvm.Cond.lays "QueryHarborModel" "QueryHarborModel" "answerWide" "I") ∈ lw_all := lw_g (lw_at lw_m8 139 rfl) rfl
theorem q1904 : (Jvm.Cond.soleField "QueryHarborModel" "answerWide") ∈ lw_all := lw_g (lw_at lw_m8 140 rfl) rfl
theorem q1905 : (Jvm.Cond.laysFinal "QueryHarborModel" "QueryHarborModel" "answerCells" "[I") ∈ lw_all := lw_g (lw_at lw_m8 141 rfl) rfl
theorem q1906 : (Jvm.Cond.soleField "QueryHarborModel" "answerCells") ∈ lw_all := lw_g (lw_at lw_m8 142 rfl) rfl
theorem q1907 : (Jvm.Cond.lays "QueryHarborModel" "QueryHarborModel" "open" "I") ∈ lw_all := lw_g (lw_at lw_m8 143 rfl) rfl
theorem q1908 : (Jvm.Cond.soleField "QueryHarborModel" "open") ∈ lw_all := lw_g (lw_at lw_m8 144 rfl) rfl
theorem q1909 : (Jvm.Cond.lays "QueryHarborModel" "QueryHarborModel" "claims" "I") ∈ lw_all := lw_g (lw_at lw_m8 145 rfl) rfl
theorem q1910 : (Jvm.Cond.soleField "QueryHarborModel" "claims") ∈ lw_all := lw_g (lw_at lw_m8 146 rfl) rfl
theorem q1911 : (Jvm.Cond.lays "QueryHarborModel" "QueryHarborModel" "cost" "I") ∈ lw_all := lw_g (lw_at lw_m8 147 rfl) rfl
theorem q1912 : (Jvm.Cond.soleField "QueryHarborModel" "cost") ∈ lw_all := lw_g (lw_at lw_m8 148 rfl) rfl
theorem q1913 : (Jvm.Cond.lays "QueryHarborModel" "QueryHarborModel" "attempts" "I") ∈ lw_all := lw_g (lw_at lw_m8 149 rfl) rfl
theorem q1914 : (Jvm.Cond.soleField "QueryHarborModel" "attempts") ∈ lw_all := lw_g (lw_at lw_m8 150 rfl) rfl
theorem q1915 : (Jvm.Cond.lays "QueryHarborModel" "QueryHarborModel" "shipped" "I") ∈ lw_all := lw_g (lw_at lw_m8 151 rfl) rfl
theorem q1916 : (Jvm.Cond.soleField "QueryHarborModel" "shipped") ∈ lw_all := lw_g (lw_at lw_m8 152 rfl) rfl
theorem q1917 : (Jvm.Cond.lays "QueryHarborModel" "QueryHarborModel" "taken" "I") ∈ lw_all := lw_g (lw_at lw_m8 153 rfl) rfl
theorem q1918 : (Jvm.Cond.soleField "QueryHarborModel" "taken") ∈ lw_all := lw_g (lw_at lw_m8 154 rfl) rfl
theorem q1919 : (Jvm.Cond.laysFinal "QueryHarborModel" "QueryHarborModel" "takenHow" "[I") ∈ lw_all := lw_g (lw_at lw_m8 155 rfl) rfl
theorem q1920 : (Jvm.Cond.soleField "QueryHarborModel" "takenHow") ∈ lw_all := lw_g (lw_at lw_m8 156 rfl) rfl
theorem q1921 : (Jvm.Cond.lays "QueryHarborModel" "QueryHarborModel" "steps" "I") ∈ lw_all := lw_g (lw_at lw_m8 157 rfl) rfl
theorem q1922 : (Jvm.Cond.soleField "QueryHarborModel" "steps") ∈ lw_all := lw_g (lw_at lw_m8 158 rfl) rfl
theorem q1923 : (Jvm.Cond.laysFinal "QueryHarborModel" "QueryHarborModel" "stepKind" "[I") ∈ lw_all := lw_g (lw_at lw_m8 159 rfl) rfl
theorem q1924 : (Jvm.Cond.soleField "QueryHarborModel" "stepKind") ∈ lw_all := lw_g (lw_at lw_m8 160 rfl) rfl
theorem q1925 : (Jvm.Cond.laysFinal "QueryHarborModel" "QueryHarborModel" "stepSource" "[I") ∈ lw_all := lw_g (lw_at lw_m8 161 rfl) rfl
theorem q1926 : (Jvm.Cond.soleField "QueryHarborModel" "stepSource") ∈ lw_all := lw_g (lw_at lw_m8 162 rfl) rfl
theorem q1927 : (Jvm.Cond.laysFinal "QueryHarborModel" "QueryHarborModel" "stepA" "[I") ∈ lw_all := lw_g (lw_at lw_m8 163 rfl) rfl
theorem q1928 : (Jvm.Cond.soleField "QueryHarborModel" "stepA") ∈ lw_all := lw_g (lw_at lw_m8 164 rfl) rfl
theorem q1929 : (Jvm.Cond.laysFinal "QueryHarborModel" "QueryHarborModel" "stepB" "[I") ∈ lw_all := lw_g (lw_at lw_m8 165 rfl) rfl
theorem q1930 : (Jvm.Cond.soleField "QueryHarborModel" "stepB") ∈ lw_all := lw_g (lw_at lw_m8 166 rfl) rfl
theorem q1931 : (Jvm.Cond.laysFinal "QueryHarborModel" "QueryHarborModel" "stepC" "[I") ∈ lw_all := lw_g (lw_at lw_m8 167 rfl) rfl
theorem q1932 : (Jvm.Cond.soleField "QueryHarborModel" "stepC") ∈ lw_all := lw_g (lw_at lw_m8 168 rfl) rfl
theorem q1933 : (Jvm.Cond.laysFinal "QueryHarborModel" "QueryHarborModel" "stepD" "[I") ∈ lw_all := lw_g (lw_at lw_m8 169 rfl) rfl
theorem q1934 : (Jvm.Cond.soleField "QueryHarborModel" "stepD") ∈ lw_all := lw_g (lw_at lw_m8 170 rfl) rfl
theorem q1935 : (Jvm.Cond.laysFinal "QueryHarborModel" "QueryHarborModel" "wasMark" "[I") ∈ lw_all := lw_g (lw_at lw_m8 171 rfl) rfl
theorem q1936 : (Jvm.Cond.soleField "QueryHarborModel" "wasMark") ∈ lw_all := lw_g (lw_at lw_m8 172 rfl) rfl
theorem q1937 : (Jvm.Cond.laysFinal "QueryHarborModel" "QueryHarborModel" "wasCells" "[I") ∈ lw_all := lw_g (lw_at lw_m8 173 rfl) rfl
theorem q1938 : (Jvm.Cond.soleField "QueryHarborModel" "wasCells") ∈ lw_all := lw_g (lw_at lw_m8 174 rfl) rfl
theorem q1939 : (Jvm.Cond.superclass "QueryHarborModel" "java/lang/Object") ∈ lw_all := lw_g (lw_at lw_m8 175 rfl) rfl
theorem q1941 : (Jvm.Cond.instanceMethod ({ cls := "QueryHarborModel", name := "thrown", desc := "()I" } : Jvm.MethodName)) ∈ lw_all := lw_g (lw_at lw_m8 177 rfl) rfl
theorem q1942 : (Jvm.Cond.selects "QueryHarborModel" ({ cls := "QueryHarborModel", name := "thrown", desc := "()I" } : Jvm.MethodName) ({ cls := "QueryHarborModel", name := "thrown", desc := "()I" } : Jvm.MethodName)) ∈ lw_all := lw_g (lw_at lw_m8 178 rfl) rfl
theorem q1943 : (Jvm.Cond.code ({ cls := "QueryHarborModel", name := "thrown", desc := "()I" } : Jvm.MethodName) prog_20_method_2_code (1 : Nat) (Option.some Jvm.ClassFile.FieldType.int)) ∈ lw_all := lw_g (lw_at lw_m8 179 rfl) rfl
theorem q1945 : (Jvm.Cond.instanceMethod ({ cls := "QueryHarborModel", name := "add", desc := "(IIIII)I" } : Jvm.MethodName)) ∈ lw_all := lw_g (lw_at lw_m8 181 rfl) rfl
theorem q1946 : (Jvm.Cond.selects "QueryHarborModel" ({ cls := "QueryHarborModel", name := "add", desc := "(IIIII)I" } : Jvm.MethodName) ({ cls := "QueryHarborModel", name := "add", desc := "(IIIII)I" } : Jvm.MethodName)) ∈ lw_all := lw_g (lw_at lw_m8 182 rfl) rfl
theorem q1947 : (Jvm.Cond.code ({ cls := "QueryHarborModel", name := "add", desc := "(IIIII)I" } : Jvm.MethodName) prog_20_method_19_code (6 : Nat) (Option.some Jvm.ClassFile.FieldType.int)) ∈ lw_all := lw_g (lw_at lw_m8 183 rfl) rfl
theorem q1948 : (Jvm.Cond.methodLink "QueryHarborModel" (270 : Nat) ({ cls := "QueryHarborModel", name := "isSource", desc := "(I)Z" } : Jvm.MethodName)) ∈ lw_all := lw_g (lw_at lw_m8 184 rfl) rfl
theorem q1949 : (Jvm.Cond.static ({ cls := "QueryHarborModel", name := "isSource", desc := "(I)Z" } : Jvm.MethodName)) ∈ lw_all := lw_g (lw_at lw_m8 185 rfl) rfl
theorem q1950 : (Jvm.Cond.code ({ cls := "QueryHarborModel", name := "isSource", desc := "(I)Z" } : Jvm.MethodName) prog_20_method_4_code (1 : Nat) (Option.some Jvm.ClassFile.FieldType.boolean)) ∈ lw_all := lw_g (lw_at lw_m8 186 rfl) rfl
theorem q1951 : (Jvm.Cond.methodLink "QueryHarborModel" (216 : Nat) ({ cls := "QueryHarborModel", name := "in", desc := "(III)Z" } : Jvm.MethodName)) ∈ lw_all := lw_g (lw_at lw_m8 187 rfl) rfl
theorem q1952 : (Jvm.Cond.static ({ cls := "QueryHarborModel", name := "in", desc := "(III)Z" } : Jvm.MethodName)) ∈ lw_all := lw_g (lw_at lw_m8 188 rfl) rfl
theorem q1953 : (Jvm.Cond.code ({ cls := "QueryHarborModel", name := "in", desc := "(III)Z" } : Jvm.MethodName) prog_20_method_3_code (3 : Nat) (Option.some Jvm.ClassFile.FieldType.boolean)) ∈ lw_all := lw_g (lw_at lw_m8 189 rfl) rfl
theorem q1954 : (Jvm.Cond.methodLink "QueryHarborModel" (273 : Nat) ({ cls := "QueryHarborModel", name := "canAdd", desc := "(IIIII)I" } : Jvm.MethodName)) ∈ lw_all := lw_g (lw_at lw_m8 190 rfl) rfl
theorem q1955 : (Jvm.Cond.privateMethod ({ cls := "QueryHarborModel", name := "canAdd", desc := "(IIIII)I" } : Jvm.MethodName)) ∈ lw_tbl := lw_at lw_m8 191 rfl
theorem q1956 : (Jvm.Cond.instanceMethod ({ cls := "QueryHarborModel", name := "canAdd", desc := "(IIIII)I" } : Jvm.MethodName)) ∈ lw_all := lw_g (lw_at lw_m8 192 rfl) rfl
theorem q1957 : (Jvm.Cond.code ({ cls := "QueryHarborModel", name := "canAdd", desc := "(IIIII)I" } : Jvm.MethodName) prog_20_method_17_code (6 : Nat) (Option.some Jvm.ClassFile.FieldType.int)) ∈ lw_all := lw_g (lw_at lw_m8 193 rfl) rfl
theorem q1958 : (Jvm.Cond.methodLink "QueryHarborModel" (259 : Nat) ({ cls := "QueryHarborModel", name := "isCell", desc := "(III)Z" } : Jvm.MethodName)) ∈ lw_all := lw_g (lw_at lw_m8 194 rfl) rfl
theorem q1959 : (Jvm.Cond.static ({ cls := "QueryHarborModel", name := "isCell", desc := "(III)Z" } : Jvm.MethodName)) ∈ lw_all := lw_g (lw_at lw_m8 195 rfl) rfl
theorem q1960 : (Jvm.Cond.code ({ cls := "QueryHarborModel", name := "isCell", desc := "(III)Z" } : Jvm.MethodName) prog_20_method_9_code (3 : Nat) (Option.some Jvm.ClassFile.FieldType.boolean)) ∈ lw_all := lw_g (lw_at lw_m8 196 rfl) rfl
theorem q1961 : (Jvm.Cond.methodLink "QueryHarborModel" (224 : Nat) ({ cls := "QueryHarborModel", name := "isColumn", desc := "(II)Z" } : Jvm.MethodName)) ∈ lw_all := lw_g (lw_at lw_m8 197 rfl) rfl
theorem q1962 : (Jvm.Cond.static ({ cls := "QueryHarborModel", name := "isColumn", desc := "(II)Z" } : Jvm.MethodName)) ∈ lw_all := lw_g (lw_at lw_m8 198 rfl) rfl
theorem q1963 : (Jvm.Cond.code ({ cls := "QueryHarborModel", name := "isColumn", desc := "(II)Z" } : Jvm.MethodName) prog_20_method_7_code (2 : Nat) (Option.some Jvm.ClassFile.FieldType.boolean)) ∈ lw_all := lw_g (lw_at lw_m8 199 rfl) rfl
theorem q1964 : (Jvm.Cond.methodLink "QueryHarborModel" (220 : Nat) ({ cls := "QueryHarborModel", name := "storeOf", desc := "(I)I" } : Jvm.MethodName)) ∈ lw_all := lw_g (lw_at lw_m8 200 rfl) rfl
theorem q1965 : (Jvm.Cond.static ({ cls := "QueryHarborModel", name := "storeOf", desc := "(I)I" } : Jvm.MethodName)) ∈ lw_all := lw_g (lw_at lw_m8 201 rfl) rfl
theorem q1966 : (Jvm.Cond.code ({ cls := "QueryHarborModel", name := "storeOf", desc := "(I)I" } : Jvm.MethodName) prog_20_method_6_code (1 : Nat) (Option.some Jvm.ClassFile.FieldType.int)) ∈ lw_all := lw_g (lw_at lw_m8 202 rfl) rfl
theorem q1967 : (Jvm.Cond.methodLink "QueryHarborModel" (228 : Nat) ({ cls := "QueryHarborModel", name := "isNumber", desc := "(I)Z" } : Jvm.MethodName)) ∈ lw_all := lw_g (lw_at lw_m8 203 rfl) rfl
theorem q1968 : (Jvm.Cond.static ({ cls := "QueryHarborModel", name := "isNumber", desc := "(I)Z" } : Jvm.MethodName)) ∈ lw_all := lw_g (lw_at lw_m8 204 rfl) rfl
theorem q1969 : (Jvm.Cond.code ({ cls := "QueryHarborModel", name := "isNumber", desc := "(I)Z" } : Jvm.MethodName) prog_20_method_8_code (1 : Nat) (Option.some Jvm.ClassFile.FieldType.boolean)) ∈ lw_all := lw_g (lw_at lw_m8 205 rfl) rfl
theorem q1970 : (Jvm.Cond.methodLink "QueryHarborModel" (252 : Nat) ({ cls := "QueryHarborModel", name := "placeOf", desc := "(II)I" } : Jvm.MethodName)) ∈ lw_all := lw_g (lw_at lw_m8 206 rfl) rfl
theorem q1971 : (Jvm.Cond.privateMethod ({ cls := "QueryHarborModel", name := "placeOf", desc := "(II)I" } : Jvm.MethodName)) ∈ lw_tbl := lw_at lw_m8 207 rfl
theorem q1972 : (Jvm.Cond.instanceMethod ({ cls := "QueryHarborModel", name := "placeOf", desc := "(II)I" } : Jvm.MethodName)) ∈ lw_all := lw_g (lw_at lw_m8 208 rfl) rfl
theorem q1973 : (Jvm.Cond.code ({ cls := "QueryHarborModel", name := "placeOf", desc := "(II)I" } : Jvm.MethodName) prog_20_method_10_code (5 : Nat) (Option.some Jvm.ClassFile.FieldType.int)) ∈ lw_all := lw_g (lw_at lw_m8 209 rfl) rfl
theorem q1974 : (Jvm.Cond.methodLink "QueryHarborModel" (277 : Nat) ({ cls := "QueryHarborModel", name := "adds", desc := "(IIIII)I" } : Jvm.MethodName)) ∈ lw_all := lw_g (lw_at lw_m8 210 rfl) rfl
theorem q1975 : (Jvm.Cond.privateMethod ({ cls := "QueryHarborModel", name := "adds", desc := "(IIIII)I" } : Jvm.MethodName)) ∈ lw_tbl := lw_at lw_m8 211 rfl
theorem q1976 : (Jvm.Cond.instanceMethod ({ cls := "QueryHarborModel", name := "adds", desc := "(IIIII)I" } : Jvm.MethodName)) ∈ lw_all := lw_g (lw_at lw_m8 212 rfl) rfl
theorem q1977 : (Jvm.Cond.code ({ cls := "QueryHarborModel", name := "adds", desc := "(IIIII)I" } : Jvm.MethodName) prog_20_method_18_code (7 : Nat) (Option.some Jvm.ClassFile.FieldType.int)) ∈ lw_all := lw_g (lw_at lw_m8 213 rfl) rfl
theorem q1978 : (Jvm.Cond.methodLink "QueryHarborModel" (262 : Nat) ({ cls := "QueryHarborModel", name := "kept", desc := "(III)I" } : Jvm.MethodName)) ∈ lw_all := lw_g (lw_at lw_m8 214 rfl) rfl
theorem q1979 : (Jvm.Cond.privateMethod ({ cls := "QueryHarborModel", name := "kept", desc := "(III)I" } : Jvm.MethodName)) ∈ lw_tbl := lw_at lw_m8 215 rfl
theorem q1980 : (Jvm.Cond.instanceMethod ({ cls := "QueryHarborModel", name := "kept", desc := "(III)I" } : Jvm.MethodName)) ∈ lw_all := lw_g (lw_at lw_m8 216 rfl) rfl
theorem q1981 : (Jvm.Cond.code ({ cls := "QueryHarborModel", name := "kept", desc := "(III)I" } : Jvm.MethodName) prog_20_method_16_code (5 : Nat) (Option.some Jvm.ClassFile.FieldType.int)) ∈ lw_all := lw_g (lw_at lw_m8 217 rfl) rfl
theorem q1982 : (Jvm.Cond.methodLink "QueryHarborModel" (266 : Nat) ({ cls := "QueryHarborModel", name := "inserts", desc := "(IIIIII)V" } : Jvm.MethodName)) ∈ lw_all := lw_g (lw_at lw_m8 218 rfl) rfl
theorem q1983 : (Jvm.Cond.privateMethod ({ cls := "QueryHarborModel", name := "inserts", desc := "(IIIIII)V" } : Jvm.MethodName)) ∈ lw_tbl := lw_at lw_m8 219 rfl
theorem q1984 : (Jvm.Cond.instanceMethod ({ cls := "QueryHarborModel", name := "inserts", desc := "(IIIIII)V" } : Jvm.MethodName)) ∈ lw_all := lw_g (lw_at lw_m8 220 rfl) rfl
theorem q1985 : (Jvm.Cond.code ({ cls := "QueryHarborModel", name := "inserts", desc := "(IIIIII)V" } : Jvm.MethodName) prog_20_method_14_code (10 : Nat) (Option.none : Option Jvm.ClassFile.FieldType)) ∈ lw_all := lw_g (lw_at lw_m8 221 rfl) rfl
theorem q1986 : (Jvm.Cond.methodLink "QueryHarborModel" (248 : Nat) ({ cls := "QueryHarborModel", name := "writes", desc := "(I)V" } : Jvm.MethodName)) ∈ lw_all := lw_g (lw_at lw_m8 222 rfl) rfl
theorem q1987 : (Jvm.Cond.privateMethod ({ cls := "QueryHarborModel", name := "writes", desc := "(I)V" } : Jvm.MethodName)) ∈ lw_tbl := lw_at lw_m8 223 rfl
theorem q1988 : (Jvm.Cond.instanceMethod ({ cls := "QueryHarborModel", name := "writes", desc := "(I)V" } : Jvm.MethodName)) ∈ lw_all := lw_g (lw_at lw_m8 224 rfl) rfl
theorem q1989 : (Jvm.Cond.code ({ cls := "QueryHarborModel", name := "writes", desc := "(I)V" } : Jvm.MethodName) prog_20_method_13_code (4 : Nat) (Option.none : Option Jvm.ClassFile.FieldType)) ∈ lw_all := lw_g (lw_at lw_m8 225 rfl) rfl
theorem q1990 : (Jvm.Cond.methodLink "QueryHarborModel" (245 : Nat) ({ cls := "QueryHarborModel", name := "drops", desc := "()V" } : Jvm.MethodName)) ∈ lw_all := lw_g (lw_at lw_m8 226 rfl) rfl
theorem q1991 : (Jvm.Cond.privateMethod ({ cls := "QueryHarborModel", name := "drops", desc := "()V" } : Jvm.MethodName)) ∈ lw_tbl := lw_at lw_m8 227 rfl
theorem q1992 : (Jvm.Cond.instanceMethod ({ cls := "QueryHarborModel", name := "drops", desc := "()V" } : Jvm.MethodName)) ∈ lw_all := lw_g (lw_at lw_m8 228 rfl) rfl
theorem q1993 : (Jvm.Cond.code ({ cls := "QueryHarborModel", name := "drops", desc := "()V" } : Jvm.MethodName) prog_20_method_11_code (4 : Nat) (Option.none : Option Jvm.ClassFile.FieldType)) ∈ lw_all := lw_g (lw_at lw_m8 229 rfl) rfl
theorem q1994 : (Jvm.Cond.methodLink "QueryHarborModel" (238 : Nat) ({ cls := "QueryHarborModel", name := "moves", desc := "(II)V" } : Jvm.MethodName)) ∈ lw_all := lw_g (lw_at lw_m8 230 rfl) rfl
theorem q1995 : (Jvm.Cond.privateMethod ({ cls := "QueryHarborModel", name := "moves", desc := "(II)V" } : Jvm.MethodName)) ∈ lw_tbl := lw_at lw_m8 231 rfl
theorem q1996 : (Jvm.Cond.instanceMethod ({ cls := "QueryHarborModel", name := "moves", desc := "(II)V" } : Jvm.MethodName)) ∈ lw_all := lw_g (lw_at lw_m8 232 rfl) rfl
theorem q1997 : (Jvm.Cond.code ({ cls := "QueryHarborModel", name := "moves", desc := "(II)V" } : Jvm.MethodName) prog_20_method_12_code (4 : Nat) (Option.none : Option Jvm.ClassFile.FieldType)) ∈ lw_all := lw_g (lw_at lw_m8 233 rfl) rfl
theorem q1999 : (Jvm.Cond.instanceMethod ({ cls := "QueryHarborModel", name := "change", desc := "(IIII)I" } : Jvm.MethodName)) ∈ lw_all := lw_g (lw_at lw_m8 235 rfl) rfl
theorem q2000 : (Jvm.Cond.selects "QueryHarborModel" ({ cls := "QueryHarborModel", name := "change", desc := "(IIII)I" } : Jvm.MethodName) ({ cls := "QueryHarborModel", name := "change", desc := "(IIII)I" } : Jvm.MethodName)) ∈ lw_all := lw_g (lw_at lw_m8 236 rfl) rfl
theorem q2001 : (Jvm.Cond.code ({ cls := "QueryHarborModel", name := "change", desc := "(IIII)I" } : Jvm.MethodName) prog_20_method_22_code (5 : Nat) (Option.some Jvm.ClassFile.FieldType.int)) ∈ lw_all := lw_g (lw_at lw_m8 237 rfl) rfl
theorem q2002 : (Jvm.Cond.methodLink "QueryHarborModel" (280 : Nat) ({ cls := "QueryHarborModel", name := "canChange", desc := "(IIII)I" } : Jvm.MethodName)) ∈ lw_all := lw_g (lw_at lw_m8 238 rfl) rfl
theorem q2003 : (Jvm.Cond.privateMethod ({ cls := "QueryHarborModel", name := "canChange", desc := "(IIII)I" } : Jvm.MethodName)) ∈ lw_tbl := lw_at lw_m8 239 rfl
theorem q2004 : (Jvm.Cond.instanceMethod ({ cls := "QueryHarborModel", name := "canChange", desc := "(IIII)I" } : Jvm.MethodName)) ∈ lw_all := lw_g (lw_at lw_m9 0 rfl) rfl
theorem q2005 : (Jvm.Cond.code ({ cls := "QueryHarborModel", name := "canChange", desc := "(IIII)I" } : Jvm.MethodName) prog_20_method_20_code (5 : Nat) (Option.some Jvm.ClassFile.FieldType.int)) ∈ lw_all := lw_g (lw_at lw_m9 1 rfl) rfl
theorem q2006 : (Jvm.Cond.methodLink "QueryHarborModel" (284 : Nat) ({ cls := "QueryHarborModel", name := "puts", desc := "(IIII)I" } : Jvm.MethodName)) ∈ lw_all := lw_g (lw_at lw_m9 2 rfl) rfl
theorem q2007 : (Jvm.Cond.privateMethod ({ cls := "QueryHarborModel", name := "puts", desc := "(IIII)I" } : Jvm.MethodName)) ∈ lw_tbl := lw_at lw_m9 3 rfl
theorem q2008 : (Jvm.Cond.instanceMethod ({ cls := "QueryHarborModel", name := "puts", desc := "(IIII)I" } : Jvm.MethodName)) ∈ lw_all := lw_g (lw_at lw_m9 4 rfl) rfl
theorem q2009 : (Jvm.Cond.code ({ cls := "QueryHarborModel", name := "puts", desc := "(IIII)I" } : Jvm.MethodName) prog_20_method_21_code (7 : Nat) (Option.some Jvm.ClassFile.FieldType.int)) ∈ lw_all := lw_g (lw_at lw_m9 5 rfl) rfl
theorem q2011 : (Jvm.Cond.instanceMethod ({ cls := "QueryHarborModel", name := "remove", desc := "(II)I" } : Jvm.MethodName)) ∈ lw_all := lw_g (lw_at lw_m9 7 rfl) rfl
theorem q2012 : (Jvm.Cond.selects "QueryHarborModel" ({ cls := "QueryHarborModel", name := "remove", desc := "(II)I" } : Jvm.MethodName) ({ cls := "QueryHarborModel", name := "remove", desc := "(II)I" } : Jvm.MethodName)) ∈ lw_all := lw_g (lw_at lw_m9 8 rfl) rfl
theorem q2013 : (Jvm.Cond.code ({ cls := "QueryHarborModel", name := "remove", desc := "(II)I" } : Jvm.MethodName) prog_20_method_23_code (3 : Nat) (Option.some Jvm.ClassFile.FieldType.int)) ∈ lw_all := lw_g (lw_at lw_m9 9 rfl) rfl
theorem q2014 : (Jvm.Cond.methodLink "QueryHarborModel" (287 : Nat) ({ cls := "QueryHarborModel", name := "takesOut", desc := "(II)V" } : Jvm.MethodName)) ∈ lw_all := lw_g (lw_at lw_m9 10 rfl) rfl
theorem q2015 : (Jvm.Cond.privateMethod ({ cls := "QueryHarborModel", name := "takesOut", desc := "(II)V" } : Jvm.MethodName)) ∈ lw_tbl := lw_at lw_m9 11 rfl
theorem q2016 : (Jvm.Cond.instanceMethod ({ cls := "QueryHarborModel", name := "takesOut", desc := "(II)V" } : Jvm.MethodName)) ∈ lw_all := lw_g (lw_at lw_m9 12 rfl) rfl
theorem q2017 : (Jvm.Cond.code ({ cls := "QueryHarborModel", name := "takesOut", desc := "(II)V" } : Jvm.MethodName) prog_20_method_15_code (7 : Nat) (Option.none : Option Jvm.ClassFile.FieldType)) ∈ lw_all := lw_g (lw_at lw_m9 13 rfl) rfl
theorem q2019 : (Jvm.Cond.instanceMethod ({ cls := "QueryHarborModel", name := "count", desc := "(I)I" } : Jvm.MethodName)) ∈ lw_all := lw_g (lw_at lw_m9 15 rfl) rfl
theorem q2020 : (Jvm.Cond.selects "QueryHarborModel" ({ cls := "QueryHarborModel", name := "count", desc := "(I)I" } : Jvm.MethodName) ({ cls := "QueryHarborModel", name := "count", desc := "(I)I" } : Jvm.MethodName)) ∈ lw_all := lw_g (lw_at lw_m9 16 rfl) rfl
theorem q2021 : (Jvm.Cond.code ({ cls := "QueryHarborModel", name := "count", desc := "(I)I" } : Jvm.MethodName) prog_20_method_24_code (2 : Nat) (Option.some Jvm.ClassFile.FieldType.int)) ∈ lw_all := lw_g (lw_at lw_m9 17 rfl) rfl
theorem q2023 : (Jvm.Cond.instanceMethod ({ cls := "QueryHarborModel", name := "cell", desc := "(III)I" } : Jvm.MethodName)) ∈ lw_all := lw_g (lw_at lw_m9 19 rfl) rfl
theorem q2024 : (Jvm.Cond.selects "QueryHarborModel" ({ cls := "QueryHarborModel", name := "cell", desc := "(III)I" } : Jvm.MethodName) ({ cls := "QueryHarborModel", name := "cell", desc := "(III)I" } : Jvm.MethodName)) ∈ lw_all := lw_g (lw_at lw_m9 20 rfl) rfl
theorem q2025 : (Jvm.Cond.code ({ cls := "QueryHarborModel", name := "cell", desc := "(III)I" } : Jvm.MethodName) prog_20_method_25_code (4 : Nat) (Option.some Jvm.ClassFile.FieldType.int)) ∈ lw_all := lw_g (lw_at lw_m9 21 rfl) rfl
theorem q2027 : (Jvm.Cond.instanceMethod ({ cls := "QueryHarborModel", name := "losses", desc := "()I" } : Jvm.MethodName)) ∈ lw_all := lw_g (lw_at lw_m9 23 rfl) rfl
theorem q2028 : (Jvm.Cond.selects "QueryHarborModel" ({ cls := "QueryHarborModel", name := "losses", desc := "()I" } : Jvm.MethodName) ({ cls := "QueryHarborModel", name := "losses", desc := "()I" } : Jvm.MethodName)) ∈ lw_all := lw_g (lw_at lw_m9 24 rfl) rfl
theorem q2029 : (Jvm.Cond.code ({ cls := "QueryHarborModel", name := "losses", desc := "()I" } : Jvm.MethodName) prog_20_method_26_code (1 : Nat) (Option.some Jvm.ClassFile.FieldType.int)) ∈ lw_all := lw_g (lw_at lw_m9 25 rfl) rfl
theorem q2031 : (Jvm.Cond.instanceMethod ({ cls := "QueryHarborModel", name := "moment", desc := "()I" } : Jvm.MethodName)) ∈ lw_all := lw_g (lw_at lw_m9 27 rfl) rfl
theorem q2032 : (Jvm.Cond.selects "QueryHarborModel" ({ cls := "QueryHarborModel", name := "moment", desc := "()I" } : Jvm.MethodName) ({ cls := "QueryHarborModel", name := "moment", desc := "()I" } : Jvm.MethodName)) ∈ lw_all := lw_g (lw_at lw_m9 28 rfl) rfl
theorem q2033 : (Jvm.Cond.code ({ cls := "QueryHarborModel", name := "moment", desc := "()I" } : Jvm.MethodName) prog_20_method_27_code (1 : Nat) (Option.some Jvm.ClassFile.FieldType.int)) ∈ lw_all := lw_g (lw_at lw_m9 29 rfl) rfl
theorem q2035 : (Jvm.Cond.instanceMethod ({ cls := "QueryHarborModel", name := "setPace", desc := "(III)I" } : Jvm.MethodName)) ∈ lw_all := lw_g (lw_at lw_m9 31 rfl) rfl
theorem q2036 : (Jvm.Cond.selects "QueryHarborModel" ({ cls := "QueryHarborModel", name := "setPace", desc := "(III)I" } : Jvm.MethodName) ({ cls := "QueryHarborModel", name := "setPace", desc := "(III)I" } : Jvm.MethodName)) ∈ lw_all := lw_g (lw_at lw_m9 32 rfl) rfl
theorem q2037 : (Jvm.Cond.code ({ cls := "QueryHarborModel", name := "setPace", desc := "(III)I" } : Jvm.MethodName) prog_20_method_28_code (5 : Nat) (Option.some Jvm.ClassFile.FieldType.int)) ∈ lw_all := lw_g (lw_at lw_m9 33 rfl) rfl
theorem q2038 : (Jvm.Cond.methodLink "QueryHarborModel" (290 : Nat) ({ cls := "QueryHarborModel", name := "isStore", desc := "(I)Z" } : Jvm.MethodName)) ∈ lw_all := lw_g (lw_at lw_m9 34 rfl) rfl
theorem q2039 : (Jvm.Cond.static ({ cls := "QueryHarborModel", name := "isStore", desc := "(I)Z" } : Jvm.MethodName)) ∈ lw_all := lw_g (lw_at lw_m9 35 rfl) rfl
theorem q2040 : (Jvm.Cond.code ({ cls := "QueryHarborModel", name := "isStore", desc := "(I)Z" } : Jvm.MethodName) prog_20_method_5_code (1 : Nat) (Option.some Jvm.ClassFile.FieldType.boolean)) ∈ lw_all := lw_g (lw_at lw_m9 36 rfl) rfl
theorem q2042 : (Jvm.Cond.instanceMethod ({ cls := "QueryHarborModel", name := "setBounds", desc := "(III)I" } : Jvm.MethodName)) ∈ lw_all := lw_g (lw_at lw_m9 38 rfl) rfl
theorem q2043 : (Jvm.Cond.selects "QueryHarborModel" ({ cls := "QueryHarborModel", name := "setBounds", desc := "(III)I" } : Jvm.MethodName) ({ cls := "QueryHarborModel", name := "setBounds", desc := "(III)I" } : Jvm.MethodName)) ∈ lw_all := lw_g (lw_at lw_m9 39 rfl) rfl
theorem q2044 : (Jvm.Cond.code ({ cls := "QueryHarborModel", name := "setBounds", desc := "(III)I" } : Jvm.MethodName) prog_20_method_29_code (5 : Nat) (Option.some Jvm.ClassFile.FieldType.int)) ∈ lw_all := lw_g (lw_at lw_m9 40 rfl) rfl
theorem q2046 : (Jvm.Cond.instanceMethod ({ cls := "QueryHarborModel", name := "setLease", desc := "(II)I" } : Jvm.MethodName)) ∈ lw_all := lw_g (lw_at lw_m9 42 rfl) rfl
theorem q2047 : (Jvm.Cond.selects "QueryHarborModel" ({ cls := "QueryHarborModel", name := "setLease", desc := "(II)I" } : Jvm.MethodName) ({ cls := "QueryHarborModel", name := "setLease", desc := "(II)I" } : Jvm.MethodName)) ∈ lw_all := lw_g (lw_at lw_m9 43 rfl) rfl
theorem q2048 : (Jvm.Cond.code ({ cls := "QueryHarborModel", name := "setLease", desc := "(II)I" } : Jvm.MethodName) prog_20_method_30_code (4 : Nat) (Option.some Jvm.ClassFile.FieldType.int)) ∈ lw_all := lw_g (lw_at lw_m9 44 rfl) rfl
theorem q2050 : (Jvm.Cond.instanceMethod ({ cls := "QueryHarborModel", name := "fail", desc := "(IIZ)I" } : Jvm.MethodName)) ∈ lw_all := lw_g (lw_at lw_m9 46 rfl) rfl
theorem q2051 : (Jvm.Cond.selects "QueryHarborModel" ({ cls := "QueryHarborModel", name := "fail", desc := "(IIZ)I" } : Jvm.MethodName) ({ cls := "QueryHarborModel", name := "fail", desc := "(IIZ)I" } : Jvm.MethodName)) ∈ lw_all := lw_g (lw_at lw_m9 47 rfl) rfl
theorem q2052 : (Jvm.Cond.code ({ cls := "QueryHarborModel", name := "fail", desc := "(IIZ)I" } : Jvm.MethodName) prog_20_method_31_code (5 : Nat) (Option.some Jvm.ClassFile.FieldType.int)) ∈ lw_all := lw_g (lw_at lw_m9 48 rfl) rfl
theorem q2054 : (Jvm.Cond.instanceMethod ({ cls := "QueryHarborModel", name := "forbid", desc := "(IIZ)Z" } : Jvm.MethodName)) ∈ lw_all := lw_g (lw_at lw_m9 50 rfl) rfl
theorem q2055 : (Jvm.Cond.selects "QueryHarborModel" ({ cls := "QueryHarborModel", name := "forbid", desc := "(IIZ)Z" } : Jvm.MethodName) ({ cls := "QueryHarborModel", name := "forbid", desc := "(IIZ)Z" } : Jvm.MethodName)) ∈ lw_all := lw_g (lw_at lw_m9 51 rfl) rfl
theorem q2056 : (Jvm.Cond.code ({ cls := "QueryHarborModel", name := "forbid", desc := "(IIZ)Z" } : Jvm.MethodName) prog_20_method_32_code (5 : Nat) (Option.some Jvm.ClassFile.FieldType.boolean)) ∈ lw_all := lw_g (lw_at lw_m9 52 rfl) rfl
theorem q2057 : (Jvm.Cond.methodLink "QueryHarborModel" (293 : Nat) ({ cls := "QueryHarborModel", name := "isForbidden", desc := "(II)Z" } : Jvm.MethodName)) ∈ lw_all := lw_g (lw_at lw_m9 53 rfl) rfl
theorem q2058 : (Jvm.Cond.privateMethod ({ cls := "QueryHarborModel", name := "isForbidden", desc := "(II)Z" } : Jvm.MethodName)) ∈ lw_tbl := lw_at lw_m9 54 rfl
theorem q2059 : (Jvm.Cond.instanceMethod ({ cls := "QueryHarborModel", name := "isForbidden", desc := "(II)Z" } : Jvm.MethodName)) ∈ lw_all := lw_g (lw_at lw_m9 55 rfl) rfl
theorem q2060 : (Jvm.Cond.code ({ cls := "QueryHarborModel", name := "isForbidden", desc := "(II)Z" } : Jvm.MethodName) prog_20_method_33_code (3 : Nat) (Option.some Jvm.ClassFile.FieldType.boolean)) ∈ lw_all := lw_g (lw_at lw_m9 56 rfl) rfl
theorem q2062 : (Jvm.Cond.instanceMethod ({ cls := "QueryHarborModel", name := "pass", desc := "(I)I" } : Jvm.MethodName)) ∈ lw_all := lw_g (lw_at lw_m9 58 rfl) rfl
theorem q2063 : (Jvm.Cond.selects "QueryHarborModel" ({ cls := "QueryHarborModel", name := "pass", desc := "(I)I" } : Jvm.MethodName) ({ cls := "QueryHarborModel", name := "pass", desc := "(I)I" } : Jvm.MethodName)) ∈ lw_all := lw_g (lw_at lw_m9 59 rfl) rfl
theorem q2064 : (Jvm.Cond.code ({ cls := "QueryHarborModel", name := "pass", desc := "(I)I" } : Jvm.MethodName) prog_20_method_35_code (2 : Nat) (Option.some Jvm.ClassFile.FieldType.int)) ∈ lw_all := lw_g (lw_at lw_m9 60 rfl) rfl
theorem q2065 : (Jvm.Cond.methodLink "QueryHarborModel" (296 : Nat) ({ cls := "QueryHarborModel", name := "goes", desc := "(I)V" } : Jvm.MethodName)) ∈ lw_all := lw_g (lw_at lw_m9 61 rfl) rfl
theorem q2066 : (Jvm.Cond.privateMethod ({ cls := "QueryHarborModel", name := "goes", desc := "(I)V" } : Jvm.MethodName)) ∈ lw_tbl := lw_at lw_m9 62 rfl
theorem q2067 : (Jvm.Cond.instanceMethod ({ cls := "QueryHarborModel", name := "goes", desc := "(I)V" } : Jvm.MethodName)) ∈ lw_all := lw_g (lw_at lw_m9 63 rfl) rfl
theorem q2068 : (Jvm.Cond.code ({ cls := "QueryHarborModel", name := "goes", desc := "(I)V" } : Jvm.MethodName) prog_20_method_34_code (2 : Nat) (Option.none : Option Jvm.ClassFile.FieldType)) ∈ lw_all := lw_g (lw_at lw_m9 64 rfl) rfl
theorem q2070 : (Jvm.Cond.instanceMethod ({ cls := "QueryHarborModel", name := "now", desc := "()I" } : Jvm.MethodName)) ∈ lw_all := lw_g (lw_at lw_m9 66 rfl) rfl
theorem q2071 : (Jvm.Cond.selects "QueryHarborModel" ({ cls := "QueryHarborModel", name := "now", desc := "()I" } : Jvm.MethodName) ({ cls := "QueryHarborModel", name := "now", desc := "()I" } : Jvm.MethodName)) ∈ lw_all := lw_g (lw_at lw_m9 67 rfl) rfl
theorem q2072 : (Jvm.Cond.code ({ cls := "QueryHarborModel", name := "now", desc := "()I" } : Jvm.MethodName) prog_20_method_36_code (1 : Nat) (Option.some Jvm.ClassFile.FieldType.int)) ∈ lw_all := lw_g (lw_at lw_m9 68 rfl) rfl
theorem q2074 : (Jvm.Cond.instanceMethod ({ cls := "QueryHarborModel", name := "seat", desc := "(I)I" } : Jvm.MethodName)) ∈ lw_all := lw_g (lw_at lw_m9 70 rfl) rfl
theorem q2075 : (Jvm.Cond.selects "QueryHarborModel" ({ cls := "QueryHarborModel", name := "seat", desc := "(I)I" } : Jvm.MethodName) ({ cls := "QueryHarborModel", name := "seat", desc := "(I)I" } : Jvm.MethodName)) ∈ lw_all := lw_g (lw_at lw_m9 71 rfl) rfl
theorem q2076 : (Jvm.Cond.code ({ cls := "QueryHarborModel", name := "seat", desc := "(I)I" } : Jvm.MethodName) prog_20_method_39_code (2 : Nat) (Option.some Jvm.ClassFile.FieldType.int)) ∈ lw_all := lw_g (lw_at lw_m9 72 rfl) rfl
theorem q2078 : (Jvm.Cond.instanceMethod ({ cls := "QueryHarborModel", name := "link", desc := "(IIII)I" } : Jvm.MethodName)) ∈ lw_all := lw_g (lw_at lw_m9 74 rfl) rfl
theorem q2079 : (Jvm.Cond.selects "QueryHarborModel" ({ cls := "QueryHarborModel", name := "link", desc := "(IIII)I" } : Jvm.MethodName) ({ cls := "QueryHarborModel", name := "link", desc := "(IIII)I" } : Jvm.MethodName)) ∈ lw_all := lw_g (lw_at lw_m9 75 rfl) rfl
theorem q2080 : (Jvm.Cond.code ({ cls := "QueryHarborModel", name := "link", desc := "(IIII)I" } : Jvm.MethodName) prog_20_method_40_code (5 : Nat) (Option.some Jvm.ClassFile.FieldType.int)) ∈ lw_all := lw_g (lw_at lw_m9 76 rfl) rfl
theorem q2081 : (Jvm.Cond.methodLink "QueryHarborModel" (305 : Nat) ({ cls := "QueryHarborModel", name := "isSeatColumn", desc := "(II)Z" } : Jvm.MethodName)) ∈ lw_all := lw_g (lw_at lw_m9 77 rfl) rfl
theorem q2082 : (Jvm.Cond.privateMethod ({ cls := "QueryHarborModel", name := "isSeatColumn", desc := "(II)Z" } : Jvm.MethodName)) ∈ lw_tbl := lw_at lw_m9 78 rfl
theorem q2083 : (Jvm.Cond.instanceMethod ({ cls := "QueryHarborModel", name := "isSeatColumn", desc := "(II)Z" } : Jvm.MethodName)) ∈ lw_all := lw_g (lw_at lw_m9 79 rfl) rfl
theorem q2084 : (Jvm.Cond.code ({ cls := "QueryHarborModel", name := "isSeatColumn", desc := "(II)Z" } : Jvm.MethodName) prog_20_method_38_code (3 : Nat) (Option.some Jvm.ClassFile.FieldType.boolean)) ∈ lw_all := lw_g (lw_at lw_m9 80 rfl) rfl
theorem q2085 : (Jvm.Cond.methodLink "QueryHarborModel" (302 : Nat) ({ cls := "QueryHarborModel", name := "isSeat", desc := "(I)Z" } : Jvm.MethodName)) ∈ lw_all := lw_g (lw_at lw_m9 81 rfl) rfl
theorem q2086 : (Jvm.Cond.privateMethod ({ cls := "QueryHarborModel", name := "isSeat", desc := "(I)Z" } : Jvm.MethodName)) ∈ lw_tbl := lw_at lw_m9 82 rfl
theorem q2087 : (Jvm.Cond.instanceMethod ({ cls := "QueryHarborModel", name := "isSeat", desc := "(I)Z" } : Jvm.MethodName)) ∈ lw_all := lw_g (lw_at lw_m9 83 rfl) rfl
theorem q2088 : (Jvm.Cond.code ({ cls := "QueryHarborModel", name := "isSeat", desc := "(I)Z" } : Jvm.MethodName) prog_20_method_37_code (2 : Nat) (Option.some Jvm.ClassFile.FieldType.boolean)) ∈ lw_all := lw_g (lw_at lw_m9 84 rfl) rfl
theorem q2090 : (Jvm.Cond.instanceMethod ({ cls := "QueryHarborModel", name := "where", desc := "(IIII)I" } : Jvm.MethodName)) ∈ lw_all := lw_g (lw_at lw_m9 86 rfl) rfl
theorem q2091 : (Jvm.Cond.selects "QueryHarborModel" ({ cls := "QueryHarborModel", name := "where", desc := "(IIII)I" } : Jvm.MethodName) ({ cls := "QueryHarborModel", name := "where", desc := "(IIII)I" } : Jvm.MethodName)) ∈ lw_all := lw_g (lw_at lw_m9 87 rfl) rfl
theorem q2092 : (Jvm.Cond.code ({ cls := "QueryHarborModel", name := "where", desc := "(IIII)I" } : Jvm.MethodName) prog_20_method_41_code (6 : Nat) (Option.some Jvm.ClassFile.FieldType.int)) ∈ lw_all := lw_g (lw_at lw_m9 88 rfl) rfl
theorem q2094 : (Jvm.Cond.instanceMethod ({ cls := "QueryHarborModel", name := "out", desc := "(II)I" } : Jvm.MethodName)) ∈ lw_all := lw_g (lw_at lw_m9 90 rfl) rfl
theorem q2095 : (Jvm.Cond.selects "QueryHarborModel" ({ cls := "QueryHarborModel", name := "out", desc := "(II)I" } : Jvm.MethodName) ({ cls := "QueryHarborModel", name := "out", desc := "(II)I" } : Jvm.MethodName)) ∈ lw_all := lw_g (lw_at lw_m9 91 rfl) rfl
theorem q2096 : (Jvm.Cond.code ({ cls := "QueryHarborModel", name := "out", desc := "(II)I" } : Jvm.MethodName) prog_20_method_42_code (3 : Nat) (Option.some Jvm.ClassFile.FieldType.int)) ∈ lw_all := lw_g (lw_at lw_m9 92 rfl) rfl
theorem q2098 : (Jvm.Cond.instanceMethod ({ cls := "QueryHarborModel", name := "shape", desc := "(IZ)V" } : Jvm.MethodName)) ∈ lw_all := lw_g (lw_at lw_m9 94 rfl) rfl
theorem q2099 : (Jvm.Cond.selects "QueryHarborModel" ({ cls := "QueryHarborModel", name := "shape", desc := "(IZ)V" } : Jvm.MethodName) ({ cls := "QueryHarborModel", name := "shape", desc := "(IZ)V" } : Jvm.MethodName)) ∈ lw_all := lw_g (lw_at lw_m9 95 rfl) rfl
theorem q2100 : (Jvm.Cond.code ({ cls := "QueryHarborModel", name := "shape", desc := "(IZ)V" } : Jvm.MethodName) prog_20_method_43_code (3 : Nat) (Option.none : Option Jvm.ClassFile.FieldType)) ∈ lw_all := lw_g (lw_at lw_m9 96 rfl) rfl
theorem q2102 : (Jvm.Cond.instanceMethod ({ cls := "QueryHarborModel", name := "clear", desc := "()I" } : Jvm.MethodName)) ∈ lw_all := lw_g (lw_at lw_m9 98 rfl) rfl
theorem q2103 : (Jvm.Cond.selects "QueryHarborModel" ({ cls := "QueryHarborModel", name := "clear", desc := "()I" } : Jvm.MethodName) ({ cls := "QueryHarborModel", name := "clear", desc := "()I" } : Jvm.MethodName)) ∈ lw_all := lw_g (lw_at lw_m9 99 rfl) rfl
theorem q2104 : (Jvm.Cond.code ({ cls := "QueryHarborModel", name := "clear", desc := "()I" } : Jvm.MethodName) prog_20_method_44_code (2 : Nat) (Option.some Jvm.ClassFile.FieldType.int)) ∈ lw_all := lw_g (lw_at lw_m9 100 rfl) rfl
theorem q2106 : (Jvm.Cond.instanceMethod ({ cls := "QueryHarborModel", name := "ask", desc := "(II)I" } : Jvm.MethodName)) ∈ lw_all := lw_g (lw_at lw_m9 102 rfl) rfl
theorem q2107 : (Jvm.Cond.selects "QueryHarborModel" ({ cls := "QueryHarborModel", name := "ask", desc := "(II)I" } : Jvm.MethodName) ({ cls := "QueryHarborModel", name := "ask", desc := "(II)I" } : Jvm.MethodName)) ∈ lw_all := lw_g (lw_at lw_m9 103 rfl) rfl
theorem q2108 : (Jvm.Cond.code ({ cls := "QueryHarborModel", name := "ask", desc := "(II)I" } : Jvm.MethodName) prog_20_method_81_code (4 : Nat) (Option.some Jvm.ClassFile.FieldType.int)) ∈ lw_all := lw_g (lw_at lw_m9 104 rfl) rfl
theorem q2109 : (Jvm.Cond.methodLink "QueryHarborModel" (461 : Nat) ({ cls := "QueryHarborModel", name := "isDrafted", desc := "()Z" } : Jvm.MethodName)) ∈ lw_all := lw_g (lw_at lw_m9 105 rfl) rfl
theorem q2110 : (Jvm.Cond.privateMethod ({ cls := "QueryHarborModel", name := "isDrafted", desc := "()Z" } : Jvm.MethodName)) ∈ lw_tbl := lw_at lw_m9 106 rfl
theorem q2111 : (Jvm.Cond.instanceMethod ({ cls := "QueryHarborModel", name := "isDrafted", desc := "()Z" } : Jvm.MethodName)) ∈ lw_all := lw_g (lw_at lw_m9 107 rfl) rfl
theorem q2112 : (Jvm.Cond.code ({ cls := "QueryHarborModel", name := "isDrafted", desc := "()Z" } : Jvm.MethodName) prog_20_method_79_code (1 : Nat) (Option.some Jvm.ClassFile.FieldType.boolean)) ∈ lw_all := lw_g (lw_at lw_m9 108 rfl) rfl
theorem q2113 : (Jvm.Cond.methodLink "QueryHarborModel" (464 : Nat) ({ cls := "QueryHarborModel", name := "nextSeat", desc := "()I" } : Jvm.MethodName)) ∈ lw_all := lw_g (lw_at lw_m9 109 rfl) rfl
theorem q2114 : (Jvm.Cond.privateMethod ({ cls := "QueryHarborModel", name := "nextSeat", desc := "()I" } : Jvm.MethodName)) ∈ lw_tbl := lw_at lw_m9 110 rfl
theorem q2115 : (Jvm.Cond.instanceMethod ({ cls := "QueryHarborModel", name := "nextSeat", desc := "()I" } : Jvm.MethodName)) ∈ lw_all := lw_g (lw_at lw_m9 111 rfl) rfl
theorem q2116 : (Jvm.Cond.code ({ cls := "QueryHarborModel", name := "nextSeat", desc := "()I" } : Jvm.MethodName) prog_20_method_65_code (6 : Nat) (Option.some Jvm.ClassFile.FieldType.int)) ∈ lw_all := lw_g (lw_at lw_m9 112 rfl) rfl
theorem q2117 : (Jvm.Cond.methodLink "QueryHarborModel" (390 : Nat) ({ cls := "QueryHarborModel", name := "linkOf", desc := "(I)I" } : Jvm.MethodName)) ∈ lw_all := lw_g (lw_at lw_m9 113 rfl) rfl
theorem q2118 : (Jvm.Cond.privateMethod ({ cls := "QueryHarborModel", name := "linkOf", desc := "(I)I" } : Jvm.MethodName)) ∈ lw_tbl := lw_at lw_m9 114 rfl
theorem q2119 : (Jvm.Cond.instanceMethod ({ cls := "QueryHarborModel", name := "linkOf", desc := "(I)I" } : Jvm.MethodName)) ∈ lw_all := lw_g (lw_at lw_m9 115 rfl) rfl
theorem q2120 : (Jvm.Cond.code ({ cls := "QueryHarborModel", name := "linkOf", desc := "(I)I" } : Jvm.MethodName) prog_20_method_64_code (5 : Nat) (Option.some Jvm.ClassFile.FieldType.int)) ∈ lw_all := lw_g (lw_at lw_m9 116 rfl) rfl
theorem q2121 : (Jvm.Cond.methodLink "QueryHarborModel" (393 : Nat) ({ cls := "QueryHarborModel", name := "guess", desc := "(I)I" } : Jvm.MethodName)) ∈ lw_all := lw_g (lw_at lw_m9 117 rfl) rfl
theorem q2122 : (Jvm.Cond.privateMethod ({ cls := "QueryHarborModel", name := "guess", desc := "(I)I" } : Jvm.MethodName)) ∈ lw_tbl := lw_at lw_m9 118 rfl
theorem q2123 : (Jvm.Cond.instanceMethod ({ cls := "QueryHarborModel", name := "guess", desc := "(I)I" } : Jvm.MethodName)) ∈ lw_all := lw_g (lw_at lw_m9 119 rfl) rfl
theorem q2124 : (Jvm.Cond.code ({ cls := "QueryHarborModel", name := "guess", desc := "(I)I" } : Jvm.MethodName) prog_20_method_63_code (4 : Nat) (Option.some Jvm.ClassFile.FieldType.int)) ∈ lw_all := lw_g (lw_at lw_m9 120 rfl) rfl
theorem q2125 : (Jvm.Cond.methodLink "QueryHarborModel" (377 : Nat) ({ cls := "QueryHarborModel", name := "manySent", desc := "(I)I" } : Jvm.MethodName)) ∈ lw_all := lw_g (lw_at lw_m9 121 rfl) rfl
theorem q2126 : (Jvm.Cond.privateMethod ({ cls := "QueryHarborModel", name := "manySent", desc := "(I)I" } : Jvm.MethodName)) ∈ lw_tbl := lw_at lw_m9 122 rfl
theorem q2127 : (Jvm.Cond.instanceMethod ({ cls := "QueryHarborModel", name := "manySent", desc := "(I)I" } : Jvm.MethodName)) ∈ lw_all := lw_g (lw_at lw_m9 123 rfl) rfl
theorem q2128 : (Jvm.Cond.code ({ cls := "QueryHarborModel", name := "manySent", desc := "(I)I" } : Jvm.MethodName) prog_20_method_48_code (4 : Nat) (Option.some Jvm.ClassFile.FieldType.int)) ∈ lw_all := lw_g (lw_at lw_m9 124 rfl) rfl
theorem q2129 : (Jvm.Cond.methodLink "QueryHarborModel" (324 : Nat) ({ cls := "QueryHarborModel", name := "isSent", desc := "(II)Z" } : Jvm.MethodName)) ∈ lw_all := lw_g (lw_at lw_m9 125 rfl) rfl
theorem q2130 : (Jvm.Cond.privateMethod ({ cls := "QueryHarborModel", name := "isSent", desc := "(II)Z" } : Jvm.MethodName)) ∈ lw_tbl := lw_at lw_m9 126 rfl
theorem q2131 : (Jvm.Cond.instanceMethod ({ cls := "QueryHarborModel", name := "isSent", desc := "(II)Z" } : Jvm.MethodName)) ∈ lw_all := lw_g (lw_at lw_m9 127 rfl) rfl
theorem q2132 : (Jvm.Cond.code ({ cls := "QueryHarborModel", name := "isSent", desc := "(II)Z" } : Jvm.MethodName) prog_20_method_47_code (3 : Nat) (Option.some Jvm.ClassFile.FieldType.boolean)) ∈ lw_all := lw_g (lw_at lw_m9 128 rfl) rfl
theorem q2133 : (Jvm.Cond.methodLink "QueryHarborModel" (321 : Nat) ({ cls := "QueryHarborModel", name := "canDo", desc := "(III)Z" } : Jvm.MethodName)) ∈ lw_all := lw_g (lw_at lw_m9 129 rfl) rfl
theorem q2134 : (Jvm.Cond.static ({ cls := "QueryHarborModel", name := "canDo", desc := "(III)Z" } : Jvm.MethodName)) ∈ lw_all := lw_g (lw_at lw_m9 130 rfl) rfl
theorem q2135 : (Jvm.Cond.code ({ cls := "QueryHarborModel", name := "canDo", desc := "(III)Z" } : Jvm.MethodName) prog_20_method_46_code (3 : Nat) (Option.some Jvm.ClassFile.FieldType.boolean)) ∈ lw_all := lw_g (lw_at lw_m9 131 rfl) rfl
theorem q2136 : (Jvm.Cond.methodLink "QueryHarborModel" (468 : Nat) ({ cls := "QueryHarborModel", name := "takes", desc := "(I)V" } : Jvm.MethodName)) ∈ lw_all := lw_g (lw_at lw_m9 132 rfl) rfl
theorem q2137 : (Jvm.Cond.privateMethod ({ cls := "QueryHarborModel", name := "takes", desc := "(I)V" } : Jvm.MethodName)) ∈ lw_tbl := lw_at lw_m9 133 rfl
theorem q2138 : (Jvm.Cond.instanceMethod ({ cls := "QueryHarborModel", name := "takes", desc := "(I)V" } : Jvm.MethodName)) ∈ lw_all := lw_g (lw_at lw_m9 134 rfl) rfl
theorem q2139 : (Jvm.Cond.code ({ cls := "QueryHarborModel", name := "takes", desc := "(I)V" } : Jvm.MethodName) prog_20_method_69_code (5 : Nat) (Option.none : Option Jvm.ClassFile.FieldType)) ∈ lw_all := lw_g (lw_at lw_m9 135 rfl) rfl
theorem q2140 : (Jvm.Cond.methodLink "QueryHarborModel" (408 : Nat) ({ cls := "QueryHarborModel", name := "entryFor", desc := "(I)I" } : Jvm.MethodName)) ∈ lw_all := lw_g (lw_at lw_m9 136 rfl) rfl
theorem q2141 : (Jvm.Cond.privateMethod ({ cls := "QueryHarborModel", name := "entryFor", desc := "(I)I" } : Jvm.MethodName)) ∈ lw_tbl := lw_at lw_m9 137 rfl
theorem q2142 : (Jvm.Cond.instanceMethod ({ cls := "QueryHarborModel", name := "entryFor", desc := "(I)I" } : Jvm.MethodName)) ∈ lw_all := lw_g (lw_at lw_m9 138 rfl) rfl
theorem q2143 : (Jvm.Cond.code ({ cls := "QueryHarborModel", name := "entryFor", desc := "(I)I" } : Jvm.MethodName) prog_20_method_61_code (4 : Nat) (Option.some Jvm.ClassFile.FieldType.int)) ∈ lw_all := lw_g (lw_at lw_m9 139 rfl) rfl
theorem q2144 : (Jvm.Cond.methodLink "QueryHarborModel" (387 : Nat) ({ cls := "QueryHarborModel", name := "canServe", desc := "(II)Z" } : Jvm.MethodName)) ∈ lw_all := lw_g (lw_at lw_m9 140 rfl) rfl
theorem q2145 : (Jvm.Cond.privateMethod ({ cls := "QueryHarborModel", name := "canServe", desc := "(II)Z" } : Jvm.MethodName)) ∈ lw_tbl := lw_at lw_m9 141 rfl
theorem q2146 : (Jvm.Cond.instanceMethod ({ cls := "QueryHarborModel", name := "canServe", desc := "(II)Z" } : Jvm.MethodName)) ∈ lw_all := lw_g (lw_at lw_m9 142 rfl) rfl
theorem q2147 : (Jvm.Cond.code ({ cls := "QueryHarborModel", name := "canServe", desc := "(II)Z" } : Jvm.MethodName) prog_20_method_60_code (8 : Nat) (Option.some Jvm.ClassFile.FieldType.boolean)) ∈ lw_all := lw_g (lw_at lw_m9 143 rfl) rfl
theorem q2148 : (Jvm.Cond.methodLink "QueryHarborModel" (383 : Nat) ({ cls := "QueryHarborModel", name := "follows", desc := "(IIII)Z" } : Jvm.MethodName)) ∈ lw_all := lw_g (lw_at lw_m9 144 rfl) rfl
theorem q2149 : (Jvm.Cond.static ({ cls := "QueryHarborModel", name := "follows", desc := "(IIII)Z" } : Jvm.MethodName)) ∈ lw_all := lw_g (lw_at lw_m9 145 rfl) rfl
theorem q2150 : (Jvm.Cond.code ({ cls := "QueryHarborModel", name := "follows", desc := "(IIII)Z" } : Jvm.MethodName) prog_20_method_59_code (4 : Nat) (Option.some Jvm.ClassFile.FieldType.boolean)) ∈ lw_all := lw_g (lw_at lw_m9 146 rfl) rfl
theorem q2151 : (Jvm.Cond.methodLink "QueryHarborModel" (411 : Nat) ({ cls := "QueryHarborModel", name := "serves", desc := "(II)V" } : Jvm.MethodName)) ∈ lw_all := lw_g (lw_at lw_m9 147 rfl) rfl
theorem q2152 : (Jvm.Cond.privateMethod ({ cls := "QueryHarborModel", name := "serves", desc := "(II)V" } : Jvm.MethodName)) ∈ lw_tbl := lw_at lw_m9 148 rfl
theorem q2153 : (Jvm.Cond.instanceMethod ({ cls := "QueryHarborModel", name := "serves", desc := "(II)V" } : Jvm.MethodName)) ∈ lw_all := lw_g (lw_at lw_m9 149 rfl) rfl
theorem q2154 : (Jvm.Cond.code ({ cls := "QueryHarborModel", name := "serves", desc := "(II)V" } : Jvm.MethodName) prog_20_method_62_code (4 : Nat) (Option.none : Option Jvm.ClassFile.FieldType)) ∈ lw_all := lw_g (lw_at lw_m9 150 rfl) rfl
theorem q2155 : (Jvm.Cond.methodLink "QueryHarborModel" (414 : Nat) ({ cls := "QueryHarborModel", name := "canBind", desc := "(II)Z" } : Jvm.MethodName)) ∈ lw_all := lw_g (lw_at lw_m9 151 rfl) rfl
theorem q2156 : (Jvm.Cond.privateMethod ({ cls := "QueryHarborModel", name := "canBind", desc := "(II)Z" } : Jvm.MethodName)) ∈ lw_tbl := lw_at lw_m9 152 rfl
theorem q2157 : (Jvm.Cond.instanceMethod ({ cls := "QueryHarborModel", name := "canBind", desc := "(II)Z" } : Jvm.MethodName)) ∈ lw_all := lw_g (lw_at lw_m9 153 rfl) rfl
theorem q2158 : (Jvm.Cond.code ({ cls := "QueryHarborModel", name := "canBind", desc := "(II)Z" } : Jvm.MethodName) prog_20_method_67_code (7 : Nat) (Option.some Jvm.ClassFile.FieldType.boolean)) ∈ lw_all := lw_g (lw_at lw_m9 154 rfl) rfl
theorem q2159 : (Jvm.Cond.methodLink "QueryHarborModel" (402 : Nat) ({ cls := "QueryHarborModel", name := "laysKeys", desc := "(II)V" } : Jvm.MethodName)) ∈ lw_all := lw_g (lw_at lw_m9 155 rfl) rfl
theorem q2160 : (Jvm.Cond.privateMethod ({ cls := "QueryHarborModel", name := "laysKeys", desc := "(II)V" } : Jvm.MethodName)) ∈ lw_tbl := lw_at lw_m9 156 rfl
theorem q2161 : (Jvm.Cond.instanceMethod ({ cls := "QueryHarborModel", name := "laysKeys", desc := "(II)V" } : Jvm.MethodName)) ∈ lw_all := lw_g (lw_at lw_m9 157 rfl) rfl
theorem q2162 : (Jvm.Cond.code ({ cls := "QueryHarborModel", name := "laysKeys", desc := "(II)V" } : Jvm.MethodName) prog_20_method_66_code (6 : Nat) (Option.none : Option Jvm.ClassFile.FieldType)) ∈ lw_all := lw_g (lw_at lw_m9 158 rfl) rfl
theorem q2163 : (Jvm.Cond.methodLink "QueryHarborModel" (399 : Nat) ({ cls := "QueryHarborModel", name := "holdHere", desc := "(II)Z" } : Jvm.MethodName)) ∈ lw_all := lw_g (lw_at lw_m9 159 rfl) rfl
theorem q2164 : (Jvm.Cond.privateMethod ({ cls := "QueryHarborModel", name := "holdHere", desc := "(II)Z" } : Jvm.MethodName)) ∈ lw_tbl := lw_at lw_m9 160 rfl
theorem q2165 : (Jvm.Cond.instanceMethod ({ cls := "QueryHarborModel", name := "holdHere", desc := "(II)Z" } : Jvm.MethodName)) ∈ lw_all := lw_g (lw_at lw_m9 161 rfl) rfl
theorem q2166 : (Jvm.Cond.code ({ cls := "QueryHarborModel", name := "holdHere", desc := "(II)Z" } : Jvm.MethodName) prog_20_method_50_code (6 : Nat) (Option.some Jvm.ClassFile.FieldType.boolean)) ∈ lw_all := lw_g (lw_at lw_m9 162 rfl) rfl
theorem q2167 : (Jvm.Cond.methodLink "QueryHarborModel" (327 : Nat) ({ cls := "QueryHarborModel", name := "holds", desc := "(III)Z" } : Jvm.MethodName)) ∈ lw_all := lw_g (lw_at lw_m9 163 rfl) rfl
theorem q2168 : (Jvm.Cond.static ({ cls := "QueryHarborModel", name := "holds", desc := "(III)Z" } : Jvm.MethodName)) ∈ lw_all := lw_g (lw_at lw_m9 164 rfl) rfl
theorem q2169 : (Jvm.Cond.code ({ cls := "QueryHarborModel", name := "holds", desc := "(III)Z" } : Jvm.MethodName) prog_20_method_45_code (3 : Nat) (Option.some Jvm.ClassFile.FieldType.boolean)) ∈ lw_all := lw_g (lw_at lw_m9 165 rfl) rfl
theorem q2170 : (Jvm.Cond.methodLink "QueryHarborModel" (358 : Nat) ({ cls := "QueryHarborModel", name := "isKey", desc := "(III)Z" } : Jvm.MethodName)) ∈ lw_all := lw_g (lw_at lw_m9 166 rfl) rfl
theorem q2171 : (Jvm.Cond.privateMethod ({ cls := "QueryHarborModel", name := "isKey", desc := "(III)Z" } : Jvm.MethodName)) ∈ lw_tbl := lw_at lw_m9 167 rfl
theorem q2172 : (Jvm.Cond.instanceMethod ({ cls := "QueryHarborModel", name := "isKey", desc := "(III)Z" } : Jvm.MethodName)) ∈ lw_all := lw_g (lw_at lw_m9 168 rfl) rfl
theorem q2173 : (Jvm.Cond.code ({ cls := "QueryHarborModel", name := "isKey", desc := "(III)Z" } : Jvm.MethodName) prog_20_method_55_code (6 : Nat) (Option.some Jvm.ClassFile.FieldType.boolean)) ∈ lw_all := lw_g (lw_at lw_m9 169 rfl) rfl
theorem q2174 : (Jvm.Cond.methodLink "QueryHarborModel" (417 : Nat) ({ cls := "QueryHarborModel", name := "binds", desc := "(II)I" } : Jvm.MethodName)) ∈ lw_all := lw_g (lw_at lw_m9 170 rfl) rfl
theorem q2175 : (Jvm.Cond.privateMethod ({ cls := "QueryHarborModel", name := "binds", desc := "(II)I" } : Jvm.MethodName)) ∈ lw_tbl := lw_at lw_m9 171 rfl
theorem q2176 : (Jvm.Cond.instanceMethod ({ cls := "QueryHarborModel", name := "binds", desc := "(II)I" } : Jvm.MethodName)) ∈ lw_all := lw_g (lw_at lw_m9 172 rfl) rfl
theorem q2177 : (Jvm.Cond.code ({ cls := "QueryHarborModel", name := "binds", desc := "(II)I" } : Jvm.MethodName) prog_20_method_68_code (8 : Nat) (Option.some Jvm.ClassFile.FieldType.int)) ∈ lw_all := lw_g (lw_at lw_m9 173 rfl) rfl
theorem q2178 : (Jvm.Cond.methodLink "QueryHarborModel" (367 : Nat) ({ cls := "QueryHarborModel", name := "requests", desc := "(I)Z" } : Jvm.MethodName)) ∈ lw_all := lw_g (lw_at lw_m9 174 rfl) rfl
theorem q2179 : (Jvm.Cond.privateMethod ({ cls := "QueryHarborModel", name := "requests", desc := "(I)Z" } : Jvm.MethodName)) ∈ lw_tbl := lw_at lw_m9 175 rfl
theorem q2180 : (Jvm.Cond.instanceMethod ({ cls := "QueryHarborModel", name := "requests", desc := "(I)Z" } : Jvm.MethodName)) ∈ lw_all := lw_g (lw_at lw_m9 176 rfl) rfl
theorem q2181 : (Jvm.Cond.code ({ cls := "QueryHarborModel", name := "requests", desc := "(I)Z" } : Jvm.MethodName) prog_20_method_53_code (4 : Nat) (Option.some Jvm.ClassFile.FieldType.boolean)) ∈ lw_all := lw_g (lw_at lw_m9 177 rfl) rfl
theorem q2182 : (Jvm.Cond.methodLink "QueryHarborModel" (348 : Nat) ({ cls := "QueryHarborModel", name := "tries", desc := "(IZ)I" } : Jvm.MethodName)) ∈ lw_all := lw_g (lw_at lw_m9 178 rfl) rfl
theorem q2183 : (Jvm.Cond.privateMethod ({ cls := "QueryHarborModel", name := "tries", desc := "(IZ)I" } : Jvm.MethodName)) ∈ lw_tbl := lw_at lw_m9 179 rfl
theorem q2184 : (Jvm.Cond.instanceMethod ({ cls := "QueryHarborModel", name := "tries", desc := "(IZ)I" } : Jvm.MethodName)) ∈ lw_all := lw_g (lw_at lw_m9 180 rfl) rfl
theorem q2185 : (Jvm.Cond.code ({ cls := "QueryHarborModel", name := "tries", desc := "(IZ)I" } : Jvm.MethodName) prog_20_method_51_code (3 : Nat) (Option.some Jvm.ClassFile.FieldType.int)) ∈ lw_all := lw_g (lw_at lw_m9 181 rfl) rfl
theorem q2186 : (Jvm.Cond.methodLink "QueryHarborModel" (339 : Nat) ({ cls := "QueryHarborModel", name := "pays", desc := "(I)V" } : Jvm.MethodName)) ∈ lw_all := lw_g (lw_at lw_m9 182 rfl) rfl
theorem q2187 : (Jvm.Cond.privateMethod ({ cls := "QueryHarborModel", name := "pays", desc := "(I)V" } : Jvm.MethodName)) ∈ lw_tbl := lw_at lw_m9 183 rfl
theorem q2188 : (Jvm.Cond.instanceMethod ({ cls := "QueryHarborModel", name := "pays", desc := "(I)V" } : Jvm.MethodName)) ∈ lw_all := lw_g (lw_at lw_m9 184 rfl) rfl
theorem q2189 : (Jvm.Cond.code ({ cls := "QueryHarborModel", name := "pays", desc := "(I)V" } : Jvm.MethodName) prog_20_method_52_code (2 : Nat) (Option.none : Option Jvm.ClassFile.FieldType)) ∈ lw_all := lw_g (lw_at lw_m9 185 rfl) rfl
theorem q2190 : (Jvm.Cond.methodLink "QueryHarborModel" (370 : Nat) ({ cls := "QueryHarborModel", name := "comes", desc := "(IIII)V" } : Jvm.MethodName)) ∈ lw_all := lw_g (lw_at lw_m9 186 rfl) rfl
theorem q2191 : (Jvm.Cond.privateMethod ({ cls := "QueryHarborModel", name := "comes", desc := "(IIII)V" } : Jvm.MethodName)) ∈ lw_tbl := lw_at lw_m9 187 rfl
theorem q2192 : (Jvm.Cond.instanceMethod ({ cls := "QueryHarborModel", name := "comes", desc := "(IIII)V" } : Jvm.MethodName)) ∈ lw_all := lw_g (lw_at lw_m9 188 rfl) rfl
theorem q2193 : (Jvm.Cond.code ({ cls := "QueryHarborModel", name := "comes", desc := "(IIII)V" } : Jvm.MethodName) prog_20_method_54_code (8 : Nat) (Option.none : Option Jvm.ClassFile.FieldType)) ∈ lw_all := lw_g (lw_at lw_m9 189 rfl) rfl
theorem q2194 : (Jvm.Cond.methodLink "QueryHarborModel" (355 : Nat) ({ cls := "QueryHarborModel", name := "holdSent", desc := "(II)Z" } : Jvm.MethodName)) ∈ lw_all := lw_g (lw_at lw_m9 190 rfl) rfl
theorem q2195 : (Jvm.Cond.privateMethod ({ cls := "QueryHarborModel", name := "holdSent", desc := "(II)Z" } : Jvm.MethodName)) ∈ lw_tbl := lw_at lw_m9 191 rfl
theorem q2196 : (Jvm.Cond.instanceMethod ({ cls := "QueryHarborModel", name := "holdSent", desc := "(II)Z" } : Jvm.MethodName)) ∈ lw_all := lw_g (lw_at lw_m9 192 rfl) rfl
theorem q2197 : (Jvm.Cond.code ({ cls := "QueryHarborModel", name := "holdSent", desc := "(II)Z" } : Jvm.MethodName) prog_20_method_49_code (6 : Nat) (Option.some Jvm.ClassFile.FieldType.boolean)) ∈ lw_all := lw_g (lw_at lw_m9 193 rfl) rfl
theorem q2198 : (Jvm.Cond.methodLink "QueryHarborModel" (361 : Nat) ({ cls := "QueryHarborModel", name := "lays", desc := "(II)V" } : Jvm.MethodName)) ∈ lw_all := lw_g (lw_at lw_m9 194 rfl) rfl
theorem q2199 : (Jvm.Cond.privateMethod ({ cls := "QueryHarborModel", name := "lays", desc := "(II)V" } : Jvm.MethodName)) ∈ lw_tbl := lw_at lw_m9 195 rfl
theorem q2200 : (Jvm.Cond.instanceMethod ({ cls := "QueryHarborModel", name := "lays", desc := "(II)V" } : Jvm.MethodName)) ∈ lw_all := lw_g (lw_at lw_m9 196 rfl) rfl
theorem q2201 : (Jvm.Cond.code ({ cls := "QueryHarborModel", name := "lays", desc := "(II)V" } : Jvm.MethodName) prog_20_method_56_code (7 : Nat) (Option.none : Option Jvm.ClassFile.FieldType)) ∈ lw_all := lw_g (lw_at lw_m9 197 rfl) rfl
theorem q2202 : (Jvm.Cond.methodLink "QueryHarborModel" (405 : Nat) ({ cls := "QueryHarborModel", name := "scans", desc := "(I)Z" } : Jvm.MethodName)) ∈ lw_all := lw_g (lw_at lw_m9 198 rfl) rfl
theorem q2203 : (Jvm.Cond.privateMethod ({ cls := "QueryHarborModel", name := "scans", desc := "(I)Z" } : Jvm.MethodName)) ∈ lw_tbl := lw_at lw_m9 199 rfl
theorem q2204 : (Jvm.Cond.instanceMethod ({ cls := "QueryHarborModel", name := "scans", desc := "(I)Z" } : Jvm.MethodName)) ∈ lw_all := lw_g (lw_at lw_m9 200 rfl) rfl
theorem q2205 : (Jvm.Cond.code ({ cls := "QueryHarborModel", name := "scans", desc := "(I)Z" } : Jvm.MethodName) prog_20_method_58_code (2 : Nat) (Option.some Jvm.ClassFile.FieldType.boolean)) ∈ lw_all := lw_g (lw_at lw_m9 201 rfl) rfl
theorem q2206 : (Jvm.Cond.methodLink "QueryHarborModel" (374 : Nat) ({ cls := "QueryHarborModel", name := "remembers", desc := "(I)V" } : Jvm.MethodName)) ∈ lw_all := lw_g (lw_at lw_m9 202 rfl) rfl
theorem q2207 : (Jvm.Cond.privateMethod ({ cls := "QueryHarborModel", name := "remembers", desc := "(I)V" } : Jvm.MethodName)) ∈ lw_tbl := lw_at lw_m9 203 rfl
theorem q2208 : (Jvm.Cond.instanceMethod ({ cls := "QueryHarborModel", name := "remembers", desc := "(I)V" } : Jvm.MethodName)) ∈ lw_all := lw_g (lw_at lw_m9 204 rfl) rfl
theorem q2209 : (Jvm.Cond.code ({ cls := "QueryHarborModel", name := "remembers", desc := "(I)V" } : Jvm.MethodName) prog_20_method_57_code (5 : Nat) (Option.none : Option Jvm.ClassFile.FieldType)) ∈ lw_all := lw_g (lw_at lw_m9 205 rfl) rfl
theorem q2210 : (Jvm.Cond.methodLink "QueryHarborModel" (471 : Nat) ({ cls := "QueryHarborModel", name := "makes", desc := "(Z)V" } : Jvm.MethodName)) ∈ lw_all := lw_g (lw_at lw_m9 206 rfl) rfl
theorem q2211 : (Jvm.Cond.privateMethod ({ cls := "QueryHarborModel", name := "makes", desc := "(Z)V" } : Jvm.MethodName)) ∈ lw_tbl := lw_at lw_m9 207 rfl
theorem q2212 : (Jvm.Cond.instanceMethod ({ cls := "QueryHarborModel", name := "makes", desc := "(Z)V" } : Jvm.MethodName)) ∈ lw_all := lw_g (lw_at lw_m9 208 rfl) rfl
theorem q2213 : (Jvm.Cond.code ({ cls := "QueryHarborModel", name := "makes", desc := "(Z)V" } : Jvm.MethodName) prog_20_method_78_code (5 : Nat) (Option.none : Option Jvm.ClassFile.FieldType)) ∈ lw_all := lw_g (lw_at lw_m9 209 rfl) rfl
theorem q2214 : (Jvm.Cond.methodLink "QueryHarborModel" (438 : Nat) ({ cls := "QueryHarborModel", name := "laysRow", desc := "(IZI)V" } : Jvm.MethodName)) ∈ lw_all := lw_g (lw_at lw_m9 210 rfl) rfl
theorem q2215 : (Jvm.Cond.privateMethod ({ cls := "QueryHarborModel", name := "laysRow", desc := "(IZI)V" } : Jvm.MethodName)) ∈ lw_tbl := lw_at lw_m9 211 rfl
theorem q2216 : (Jvm.Cond.instanceMethod ({ cls := "QueryHarborModel", name := "laysRow", desc := "(IZI)V" } : Jvm.MethodName)) ∈ lw_all := lw_g (lw_at lw_m9 212 rfl) rfl
theorem q2217 : (Jvm.Cond.code ({ cls := "QueryHarborModel", name := "laysRow", desc := "(IZI)V" } : Jvm.MethodName) prog_20_method_70_code (7 : Nat) (Option.none : Option Jvm.ClassFile.FieldType)) ∈ lw_all := lw_g (lw_at lw_m9 213 rfl) rfl
theorem q2218 : (Jvm.Cond.methodLink "QueryHarborModel" (445 : Nat) ({ cls := "QueryHarborModel", name := "areLinked", desc := "()Z" } : Jvm.MethodName)) ∈ lw_all := lw_g (lw_at lw_m9 214 rfl) rfl
theorem q2219 : (Jvm.Cond.privateMethod ({ cls := "QueryHarborModel", name := "areLinked", desc := "()Z" } : Jvm.MethodName)) ∈ lw_tbl := lw_at lw_m9 215 rfl
theorem q2220 : (Jvm.Cond.instanceMethod ({ cls := "QueryHarborModel", name := "areLinked", desc := "()Z" } : Jvm.MethodName)) ∈ lw_all := lw_g (lw_at lw_m9 216 rfl) rfl
theorem q2221 : (Jvm.Cond.code ({ cls := "QueryHarborModel", name := "areLinked", desc := "()Z" } : Jvm.MethodName) prog_20_method_72_code (4 : Nat) (Option.some Jvm.ClassFile.FieldType.boolean)) ∈ lw_all := lw_g (lw_at lw_m9 217 rfl) rfl
theorem q2222 : (Jvm.Cond.methodLink "QueryHarborModel" (426 : Nat) ({ cls := "QueryHarborModel", name := "cellAt", desc := "(II)I" } : Jvm.MethodName)) ∈ lw_all := lw_g (lw_at lw_m9 218 rfl) rfl
theorem q2223 : (Jvm.Cond.privateMethod ({ cls := "QueryHarborModel", name := "cellAt", desc := "(II)I" } : Jvm.MethodName)) ∈ lw_tbl := lw_at lw_m9 219 rfl
theorem q2224 : (Jvm.Cond.instanceMethod ({ cls := "QueryHarborModel", name := "cellAt", desc := "(II)I" } : Jvm.MethodName)) ∈ lw_all := lw_g (lw_at lw_m9 220 rfl) rfl
theorem q2225 : (Jvm.Cond.code ({ cls := "QueryHarborModel", name := "cellAt", desc := "(II)I" } : Jvm.MethodName) prog_20_method_71_code (3 : Nat) (Option.some Jvm.ClassFile.FieldType.int)) ∈ lw_all := lw_g (lw_at lw_m9 221 rfl) rfl
theorem q2226 : (Jvm.Cond.methodLink "QueryHarborModel" (449 : Nat) ({ cls := "QueryHarborModel", name := "addsToGroup", desc := "()V" } : Jvm.MethodName)) ∈ lw_all := lw_g (lw_at lw_m9 222 rfl) rfl
theorem q2227 : (Jvm.Cond.privateMethod ({ cls := "QueryHarborModel", name := "addsToGroup", desc := "()V" } : Jvm.MethodName)) ∈ lw_tbl := lw_at lw_m9 223 rfl
theorem q2228 : (Jvm.Cond.instanceMethod ({ cls := "QueryHarborModel", name := "addsToGroup", desc := "()V" } : Jvm.MethodName)) ∈ lw_all := lw_g (lw_at lw_m9 224 rfl) rfl
theorem q2229 : (Jvm.Cond.code ({ cls := "QueryHarborModel", name := "addsToGroup", desc := "()V" } : Jvm.MethodName) prog_20_method_75_code (5 : Nat) (Option.none : Option Jvm.ClassFile.FieldType)) ∈ lw_all := lw_g (lw_at lw_m9 225 rfl) rfl
theorem q2230 : (Jvm.Cond.methodLink "QueryHarborModel" (452 : Nat) ({ cls := "QueryHarborModel", name := "addsMatch", desc := "()V" } : Jvm.MethodName)) ∈ lw_all := lw_g (lw_at lw_m9 226 rfl) rfl
theorem q2231 : (Jvm.Cond.privateMethod ({ cls := "QueryHarborModel", name := "addsMatch", desc := "()V" } : Jvm.MethodName)) ∈ lw_tbl := lw_at lw_m9 227 rfl
theorem q2232 : (Jvm.Cond.instanceMethod ({ cls := "QueryHarborModel", name := "addsMatch", desc := "()V" } : Jvm.MethodName)) ∈ lw_all := lw_g (lw_at lw_m9 228 rfl) rfl
theorem q2233 : (Jvm.Cond.code ({ cls := "QueryHarborModel", name := "addsMatch", desc := "()V" } : Jvm.MethodName) prog_20_method_74_code (2 : Nat) (Option.none : Option Jvm.ClassFile.FieldType)) ∈ lw_all := lw_g (lw_at lw_m9 229 rfl) rfl
theorem q2234 : (Jvm.Cond.methodLink "QueryHarborModel" (455 : Nat) ({ cls := "QueryHarborModel", name := "goesOn", desc := "()Z" } : Jvm.MethodName)) ∈ lw_all := lw_g (lw_at lw_m9 230 rfl) rfl
theorem q2235 : (Jvm.Cond.privateMethod ({ cls := "QueryHarborModel", name := "goesOn", desc := "()Z" } : Jvm.MethodName)) ∈ lw_tbl := lw_at lw_m9 231 rfl
theorem q2236 : (Jvm.Cond.instanceMethod ({ cls := "QueryHarborModel", name := "goesOn", desc := "()Z" } : Jvm.MethodName)) ∈ lw_all := lw_g (lw_at lw_m9 232 rfl) rfl
theorem q2237 : (Jvm.Cond.code ({ cls := "QueryHarborModel", name := "goesOn", desc := "()Z" } : Jvm.MethodName) prog_20_method_73_code (2 : Nat) (Option.some Jvm.ClassFile.FieldType.boolean)) ∈ lw_all := lw_g (lw_at lw_m9 233 rfl) rfl
theorem q2238 : (Jvm.Cond.methodLink "QueryHarborModel" (458 : Nat) ({ cls := "QueryHarborModel", name := "makesGroups", desc := "()V" } : Jvm.MethodName)) ∈ lw_all := lw_g (lw_at lw_m9 234 rfl) rfl
theorem q2239 : (Jvm.Cond.privateMethod ({ cls := "QueryHarborModel", name := "makesGroups", desc := "()V" } : Jvm.MethodName)) ∈ lw_tbl := lw_at lw_m9 235 rfl
theorem q2240 : (Jvm.Cond.instanceMethod ({ cls := "QueryHarborModel", name := "makesGroups", desc := "()V" } : Jvm.MethodName)) ∈ lw_all := lw_g (lw_at lw_m9 236 rfl) rfl
theorem q2241 : (Jvm.Cond.code ({ cls := "QueryHarborModel", name := "makesGroups", desc := "()V" } : Jvm.MethodName) prog_20_method_77_code (5 : Nat) (Option.none : Option Jvm.ClassFile.FieldType)) ∈ lw_all := lw_g (lw_at lw_m9 237 rfl) rfl
theorem q2242 : (Jvm.Cond.methodLink "QueryHarborModel" (435 : Nat) ({ cls := "QueryHarborModel", name := "rankOf", desc := "(I)I" } : Jvm.MethodName)) ∈ lw_all := lw_g (lw_at lw_m9 238 rfl) rfl
theorem q2243 : (Jvm.Cond.static ({ cls := "QueryHarborModel", name := "rankOf", desc := "(I)I" } : Jvm.MethodName)) ∈ lw_all := lw_g (lw_at lw_m9 239 rfl) rfl
theorem q2244 : (Jvm.Cond.code ({ cls := "QueryHarborModel", name := "rankOf", desc := "(I)I" } : Jvm.MethodName) prog_20_method_76_code (1 : Nat) (Option.some Jvm.ClassFile.FieldType.int)) ∈ lw_all := lw_g (lw_at lw_m10 0 rfl) rfl
theorem q2245 : (Jvm.Cond.methodLink "QueryHarborModel" (481 : Nat) ({ cls := "QueryHarborModel", name := "claimed", desc := "()I" } : Jvm.MethodName)) ∈ lw_all := lw_g (lw_at lw_m10 1 rfl) rfl
theorem q2246 : (Jvm.Cond.privateMethod ({ cls := "QueryHarborModel", name := "claimed", desc := "()I" } : Jvm.MethodName)) ∈ lw_tbl := lw_at lw_m10 2 rfl
theorem q2247 : (Jvm.Cond.instanceMethod ({ cls := "QueryHarborModel", name := "claimed", desc := "()I" } : Jvm.MethodName)) ∈ lw_all := lw_g (lw_at lw_m10 3 rfl) rfl
theorem q2248 : (Jvm.Cond.code ({ cls := "QueryHarborModel", name := "claimed", desc := "()I" } : Jvm.MethodName) prog_20_method_80_code (4 : Nat) (Option.some Jvm.ClassFile.FieldType.int)) ∈ lw_all := lw_g (lw_at lw_m10 4 rfl) rfl
theorem q2250 : (Jvm.Cond.instanceMethod ({ cls := "QueryHarborModel", name := "answers", desc := "()I" } : Jvm.MethodName)) ∈ lw_all := lw_g (lw_at lw_m10 6 rfl) rfl
theorem q2251 : (Jvm.Cond.selects "QueryHarborModel" ({ cls := "QueryHarborModel", name := "answers", desc := "()I" } : Jvm.MethodName) ({ cls := "QueryHarborModel", name := "answers", desc := "()I" } : Jvm.MethodName)) ∈ lw_all := lw_g (lw_at lw_m10 7 rfl) rfl
theorem q2252 : (Jvm.Cond.code ({ cls := "QueryHarborModel", name := "answers", desc := "()I" } : Jvm.MethodName) prog_20_method_82_code (1 : Nat) (Option.some Jvm.ClassFile.FieldType.int)) ∈ lw_all := lw_g (lw_at lw_m10 8 rfl) rfl
theorem q2254 : (Jvm.Cond.instanceMethod ({ cls := "QueryHarborModel", name := "answer", desc := "(II)I" } : Jvm.MethodName)) ∈ lw_all := lw_g (lw_at lw_m10 10 rfl) rfl
theorem q2255 : (Jvm.Cond.selects "QueryHarborModel" ({ cls := "QueryHarborModel", name := "answer", desc := "(II)I" } : Jvm.MethodName) ({ cls := "QueryHarborModel", name := "answer", desc := "(II)I" } : Jvm.MethodName)) ∈ lw_all := lw_g (lw_at lw_m10 11 rfl) rfl
theorem q2256 : (Jvm.Cond.code ({ cls := "QueryHarborModel", name := "answer", desc := "(II)I" } : Jvm.MethodName) prog_20_method_83_code (3 : Nat) (Option.some Jvm.ClassFile.FieldType.int)) ∈ lw_all := lw_g (lw_at lw_m10 12 rfl) rfl
theorem q2258 : (Jvm.Cond.instanceMethod ({ cls := "QueryHarborModel", name := "missing", desc := "()I" } : Jvm.MethodName)) ∈ lw_all := lw_g (lw_at lw_m10 14 rfl) rfl
theorem q2259 : (Jvm.Cond.selects "QueryHarborModel" ({ cls := "QueryHarborModel", name := "missing", desc := "()I" } : Jvm.MethodName) ({ cls := "QueryHarborModel", name := "missing", desc := "()I" } : Jvm.MethodName)) ∈ lw_all := lw_g (lw_at lw_m10 15 rfl) rfl
theorem q2260 : (Jvm.Cond.code ({ cls := "QueryHarborModel", name := "missing", desc := "()I" } : Jvm.MethodName) prog_20_method_84_code (1 : Nat) (Option.some Jvm.ClassFile.FieldType.int)) ∈ lw_all := lw_g (lw_at lw_m10 16 rfl) rfl
theorem q2262 : (Jvm.Cond.instanceMethod ({ cls := "QueryHarborModel", name := "claims", desc := "()I" } : Jvm.MethodName)) ∈ lw_all := lw_g (lw_at lw_m10 18 rfl) rfl
theorem q2263 : (Jvm.Cond.selects "QueryHarborModel" ({ cls := "QueryHarborModel", name := "claims", desc := "()I" } : Jvm.MethodName) ({ cls := "QueryHarborModel", name := "claims", desc := "()I" } : Jvm.MethodName)) ∈ lw_all := lw_g (lw_at lw_m10 19 rfl) rfl
theorem q2264 : (Jvm.Cond.code ({ cls := "QueryHarborModel", name := "claims", desc := "()I" } : Jvm.MethodName) prog_20_method_85_code (1 : Nat) (Option.some Jvm.ClassFile.FieldType.int)) ∈ lw_all := lw_g (lw_at lw_m10 20 rfl) rfl
theorem q2266 : (Jvm.Cond.instanceMethod ({ cls := "QueryHarborModel", name := "cost", desc := "()I" } : Jvm.MethodName)) ∈ lw_all := lw_g (lw_at lw_m10 22 rfl) rfl
theorem q2267 : (Jvm.Cond.selects "QueryHarborModel" ({ cls := "QueryHarborModel", name := "cost", desc := "()I" } : Jvm.MethodName) ({ cls := "QueryHarborModel", name := "cost", desc := "()I" } : Jvm.MethodName)) ∈ lw_all := lw_g (lw_at lw_m10 23 rfl) rfl
theorem q2268 : (Jvm.Cond.code ({ cls := "QueryHarborModel", name := "cost", desc := "()I" } : Jvm.MethodName) prog_20_method_86_code (1 : Nat) (Option.some Jvm.ClassFile.FieldType.int)) ∈ lw_all := lw_g (lw_at lw_m10 24 rfl) rfl
theorem q2270 : (Jvm.Cond.instanceMethod ({ cls := "QueryHarborModel", name := "attempts", desc := "()I" } : Jvm.MethodName)) ∈ lw_all := lw_g (lw_at lw_m10 26 rfl) rfl
theorem q2271 : (Jvm.Cond.selects "QueryHarborModel" ({ cls := "QueryHarborModel", name := "attempts", desc := "()I" } : Jvm.MethodName) ({ cls := "QueryHarborModel", name := "attempts", desc := "()I" } : Jvm.MethodName)) ∈ lw_all := lw_g (lw_at lw_m10 27 rfl) rfl
theorem q2272 : (Jvm.Cond.code ({ cls := "QueryHarborModel", name := "attempts", desc := "()I" } : Jvm.MethodName) prog_20_method_87_code (1 : Nat) (Option.some Jvm.ClassFile.FieldType.int)) ∈ lw_all := lw_g (lw_at lw_m10 28 rfl) rfl
theorem q2274 : (Jvm.Cond.instanceMethod ({ cls := "QueryHarborModel", name := "shipped", desc := "()I" } : Jvm.MethodName)) ∈ lw_all := lw_g (lw_at lw_m10 30 rfl) rfl
theorem q2275 : (Jvm.Cond.selects "QueryHarborModel" ({ cls := "QueryHarborModel", name := "shipped", desc := "()I" } : Jvm.MethodName) ({ cls := "QueryHarborModel", name := "shipped", desc := "()I" } : Jvm.MethodName)) ∈ lw_all := lw_g (lw_at lw_m10 31 rfl) rfl
theorem q2276 : (Jvm.Cond.code ({ cls := "QueryHarborModel", name := "shipped", desc := "()I" } : Jvm.MethodName) prog_20_method_88_code (1 : Nat) (Option.some Jvm.ClassFile.FieldType.int)) ∈ lw_all := lw_g (lw_at lw_m10 32 rfl) rfl
theorem q2278 : (Jvm.Cond.instanceMethod ({ cls := "QueryHarborModel", name := "taken", desc := "(I)I" } : Jvm.MethodName)) ∈ lw_all := lw_g (lw_at lw_m10 34 rfl) rfl
theorem q2279 : (Jvm.Cond.selects "QueryHarborModel" ({ cls := "QueryHarborModel", name := "taken", desc := "(I)I" } : Jvm.MethodName) ({ cls := "QueryHarborModel", name := "taken", desc := "(I)I" } : Jvm.MethodName)) ∈ lw_all := lw_g (lw_at lw_m10 35 rfl) rfl
theorem q2280 : (Jvm.Cond.code ({ cls := "QueryHarborModel", name := "taken", desc := "(I)I" } : Jvm.MethodName) prog_20_method_89_code (2 : Nat) (Option.some Jvm.ClassFile.FieldType.int)) ∈ lw_all := lw_g (lw_at lw_m10 36 rfl) rfl
theorem q2282 : (Jvm.Cond.instanceMethod ({ cls := "QueryHarborModel", name := "size", desc := "(I)I" } : Jvm.MethodName)) ∈ lw_all := lw_g (lw_at lw_m10 38 rfl) rfl
theorem q2283 : (Jvm.Cond.selects "QueryHarborModel" ({ cls := "QueryHarborModel", name := "size", desc := "(I)I" } : Jvm.MethodName) ({ cls := "QueryHarborModel", name := "size", desc := "(I)I" } : Jvm.MethodName)) ∈ lw_all := lw_g (lw_at lw_m10 39 rfl) rfl
theorem q2284 : (Jvm.Cond.code ({ cls := "QueryHarborModel", name := "size", desc := "(I)I" } : Jvm.MethodName) prog_20_method_90_code (2 : Nat) (Option.some Jvm.ClassFile.FieldType.int)) ∈ lw_all := lw_g (lw_at lw_m10 40 rfl) rfl
theorem q2286 : (Jvm.Cond.instanceMethod ({ cls := "QueryHarborModel", name := "entries", desc := "()I" } : Jvm.MethodName)) ∈ lw_all := lw_g (lw_at lw_m10 42 rfl) rfl
theorem q2287 : (Jvm.Cond.selects "QueryHarborModel" ({ cls := "QueryHarborModel", name := "entries", desc := "()I" } : Jvm.MethodName) ({ cls := "QueryHarborModel", name := "entries", desc := "()I" } : Jvm.MethodName)) ∈ lw_all := lw_g (lw_at lw_m10 43 rfl) rfl
theorem q2288 : (Jvm.Cond.code ({ cls := "QueryHarborModel", name := "entries", desc := "()I" } : Jvm.MethodName) prog_20_method_91_code (1 : Nat) (Option.some Jvm.ClassFile.FieldType.int)) ∈ lw_all := lw_g (lw_at lw_m10 44 rfl) rfl
theorem q2290 : (Jvm.Cond.instanceMethod ({ cls := "QueryHarborModel", name := "answersAnew", desc := "()I" } : Jvm.MethodName)) ∈ lw_all := lw_g (lw_at lw_m10 46 rfl) rfl
theorem q2291 : (Jvm.Cond.selects "QueryHarborModel" ({ cls := "QueryHarborModel", name := "answersAnew", desc := "()I" } : Jvm.MethodName) ({ cls := "QueryHarborModel", name := "answersAnew", desc := "()I" } : Jvm.MethodName)) ∈ lw_all := lw_g (lw_at lw_m10 47 rfl) rfl
theorem q2292 : (Jvm.Cond.code ({ cls := "QueryHarborModel", name := "answersAnew", desc := "()I" } : Jvm.MethodName) prog_20_method_92_code (1 : Nat) (Option.some Jvm.ClassFile.FieldType.int)) ∈ lw_all := lw_g (lw_at lw_m10 48 rfl) rfl
theorem q2294 : (Jvm.Cond.instanceMethod ({ cls := "QueryHarborModel", name := "answerAnew", desc := "(II)I" } : Jvm.MethodName)) ∈ lw_all := lw_g (lw_at lw_m10 50 rfl) rfl
theorem q2295 : (Jvm.Cond.selects "QueryHarborModel" ({ cls := "QueryHarborModel", name := "answerAnew", desc := "(II)I" } : Jvm.MethodName) ({ cls := "QueryHarborModel", name := "answerAnew", desc := "(II)I" } : Jvm.MethodName)) ∈ lw_all := lw_g (lw_at lw_m10 51 rfl) rfl
theorem q2296 : (Jvm.Cond.code ({ cls := "QueryHarborModel", name := "answerAnew", desc := "(II)I" } : Jvm.MethodName) prog_20_method_93_code (3 : Nat) (Option.some Jvm.ClassFile.FieldType.int)) ∈ lw_all := lw_g (lw_at lw_m10 52 rfl) rfl
theorem q2298 : (Jvm.Cond.instanceMethod ({ cls := "QueryHarborModel", name := "step", desc := "(IIIIII)I" } : Jvm.MethodName)) ∈ lw_all := lw_g (lw_at lw_m10 54 rfl) rfl
theorem q2299 : (Jvm.Cond.selects "QueryHarborModel" ({ cls := "QueryHarborModel", name := "step", desc := "(IIIIII)I" } : Jvm.MethodName) ({ cls := "QueryHarborModel", name := "step", desc := "(IIIIII)I" } : Jvm.MethodName)) ∈ lw_all := lw_g (lw_at lw_m10 55 rfl) rfl
theorem q2300 : (Jvm.Cond.code ({ cls := "QueryHarborModel", name := "step", desc := "(IIIIII)I" } : Jvm.MethodName) prog_20_method_94_code (8 : Nat) (Option.some Jvm.ClassFile.FieldType.int)) ∈ lw_all := lw_g (lw_at lw_m10 56 rfl) rfl
theorem q2302 : (Jvm.Cond.instanceMethod ({ cls := "QueryHarborModel", name := "run", desc := "()I" } : Jvm.MethodName)) ∈ lw_all := lw_g (lw_at lw_m10 58 rfl) rfl
theorem q2303 : (Jvm.Cond.selects "QueryHarborModel" ({ cls := "QueryHarborModel", name := "run", desc := "()I" } : Jvm.MethodName) ({ cls := "QueryHarborModel", name := "run", desc := "()I" } : Jvm.MethodName)) ∈ lw_all := lw_g (lw_at lw_m10 59 rfl) rfl
theorem q2304 : (Jvm.Cond.code ({ cls := "QueryHarborModel", name := "run", desc := "()I" } : Jvm.MethodName) prog_20_method_99_code (5 : Nat) (Option.some Jvm.ClassFile.FieldType.int)) ∈ lw_all := lw_g (lw_at lw_m10 60 rfl) rfl
theorem q2305 : (Jvm.Cond.methodLink "QueryHarborModel" (493 : Nat) ({ cls := "QueryHarborModel", name := "runs", desc := "(I)I" } : Jvm.MethodName)) ∈ lw_all := lw_g (lw_at lw_m10 61 rfl) rfl
theorem q2306 : (Jvm.Cond.privateMethod ({ cls := "QueryHarborModel", name := "runs", desc := "(I)I" } : Jvm.MethodName)) ∈ lw_tbl := lw_at lw_m10 62 rfl
theorem q2307 : (Jvm.Cond.instanceMethod ({ cls := "QueryHarborModel", name := "runs", desc := "(I)I" } : Jvm.MethodName)) ∈ lw_all := lw_g (lw_at lw_m10 63 rfl) rfl
theorem q2308 : (Jvm.Cond.code ({ cls := "QueryHarborModel", name := "runs", desc := "(I)I" } : Jvm.MethodName) prog_20_method_98_code (7 : Nat) (Option.some Jvm.ClassFile.FieldType.int)) ∈ lw_all := lw_g (lw_at lw_m10 64 rfl) rfl
theorem q2309 : (Jvm.Cond.methodLink "QueryHarborModel" (487 : Nat) ({ cls := "QueryHarborModel", name := "canStep", desc := "(I)Z" } : Jvm.MethodName)) ∈ lw_all := lw_g (lw_at lw_m10 65 rfl) rfl
theorem q2310 : (Jvm.Cond.privateMethod ({ cls := "QueryHarborModel", name := "canStep", desc := "(I)Z" } : Jvm.MethodName)) ∈ lw_tbl := lw_at lw_m10 66 rfl
theorem q2311 : (Jvm.Cond.instanceMethod ({ cls := "QueryHarborModel", name := "canStep", desc := "(I)Z" } : Jvm.MethodName)) ∈ lw_all := lw_g (lw_at lw_m10 67 rfl) rfl
theorem q2312 : (Jvm.Cond.code ({ cls := "QueryHarborModel", name := "canStep", desc := "(I)Z" } : Jvm.MethodName) prog_20_method_95_code (3 : Nat) (Option.some Jvm.ClassFile.FieldType.boolean)) ∈ lw_all := lw_g (lw_at lw_m10 68 rfl) rfl
theorem q2313 : (Jvm.Cond.methodLink "QueryHarborModel" (490 : Nat) ({ cls := "QueryHarborModel", name := "doesStep", desc := "(I)V" } : Jvm.MethodName)) ∈ lw_all := lw_g (lw_at lw_m10 69 rfl) rfl
theorem q2314 : (Jvm.Cond.privateMethod ({ cls := "QueryHarborModel", name := "doesStep", desc := "(I)V" } : Jvm.MethodName)) ∈ lw_tbl := lw_at lw_m10 70 rfl
theorem q2315 : (Jvm.Cond.instanceMethod ({ cls := "QueryHarborModel", name := "doesStep", desc := "(I)V" } : Jvm.MethodName)) ∈ lw_all := lw_g (lw_at lw_m10 71 rfl) rfl
theorem q2316 : (Jvm.Cond.code ({ cls := "QueryHarborModel", name := "doesStep", desc := "(I)V" } : Jvm.MethodName) prog_20_method_96_code (4 : Nat) (Option.none : Option Jvm.ClassFile.FieldType)) ∈ lw_all := lw_g (lw_at lw_m10 72 rfl) rfl
theorem q2317 : (Jvm.Cond.methodLink "QueryHarborModel" (496 : Nat) ({ cls := "QueryHarborModel", name := "takesBack", desc := "(I)V" } : Jvm.MethodName)) ∈ lw_all := lw_g (lw_at lw_m10 73 rfl) rfl
theorem q2318 : (Jvm.Cond.privateMethod ({ cls := "QueryHarborModel", name := "takesBack", desc := "(I)V" } : Jvm.MethodName)) ∈ lw_tbl := lw_at lw_m10 74 rfl
theorem q2319 : (Jvm.Cond.instanceMethod ({ cls := "QueryHarborModel", name := "takesBack", desc := "(I)V" } : Jvm.MethodName)) ∈ lw_all := lw_g (lw_at lw_m10 75 rfl) rfl
theorem q2320 : (Jvm.Cond.code ({ cls := "QueryHarborModel", name := "takesBack", desc := "(I)V" } : Jvm.MethodName) prog_20_method_97_code (3 : Nat) (Option.none : Option Jvm.ClassFile.FieldType)) ∈ lw_all := lw_g (lw_at lw_m10 76 rfl) rfl
theorem q2344 : (Jvm.Cond.castable "QueryHarborModel" "java/lang/Object") ∈ lw_tbl := lw_at lw_m10 100 rfl
theorem in_X8 : ∀ w ∈ wsX80, w ∈ lw_all := lw_in wsX80 [1751, 1753, 1755, 1757, 1759, 1761, 1763, 1765, 1767, 1769, 1771, 1773, 1775, 1777, 1779, 1781, 1783, 1785, 1787, 1789, 1791, 1793, 1795, 1797, 1799, 1801, 1803, 1805, 1807, 1809, 1811, 1813, 1815, 1817, 1819, 1821, 1823, 1825, 1827, 1829, 1831, 1833, 1835, 1837, 1839, 1841, 1843, 1845, 1847, 1849, 1851, 1853, 1855, 1857, 1859, 1861, 1863, 1865, 1867, 1869, 1871, 1873, 1875, 1877, 1879, 1881, 1883, 1885, 1887, 1889, 1891, 1893, 1895, 1897, 1899, 1901, 1903, 1905, 1907, 1909, 1911, 1913, 1915, 1917, 1919, 1921, 1923, 1925, 1927, 1929, 1931, 1933, 1935, 1937] (by decide +kernel) (by decide +kernel)
