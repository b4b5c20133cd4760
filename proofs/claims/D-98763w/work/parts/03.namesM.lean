/-! OpenGatesModel -/
set_option maxRecDepth 100000
def RX5 : String := "OpenGatesModel"
def TX5 : u_T := fun k => match k with
  | 0 => ("OpenGatesModel", "thrown", "I", false)
  | 1 => ("OpenGatesModel", "status", "I", false)
  | 2 => ("OpenGatesModel", "refusals", "[I", true)
  | 3 => ("OpenGatesModel", "row", "[I", true)
  | 4 => ("OpenGatesModel", "images", "[I", true)
  | 5 => ("OpenGatesModel", "isKept", "[Z", true)
  | 6 => ("OpenGatesModel", "undos", "[I", true)
  | 7 => ("OpenGatesModel", "sorts", "[I", true)
  | 8 => ("OpenGatesModel", "nUndo", "I", false)
  | 9 => ("OpenGatesModel", "undosBefore", "[I", true)
  | 10 => ("OpenGatesModel", "sortsBefore", "[I", true)
  | 11 => ("OpenGatesModel", "brooms", "I", false)
  | 12 => ("OpenGatesModel", "tape", "[I", true)
  | 13 => ("OpenGatesModel", "taped", "I", false)
  | 14 => ("OpenGatesModel", "from", "I", false)
  | 15 => ("OpenGatesModel", "to", "I", false)
  | 16 => ("OpenGatesModel", "sort", "I", false)
  | 17 => ("OpenGatesModel", "worth", "J", false)
  | 18 => ("OpenGatesModel", "fault", "I", false)
  | 19 => ("OpenGatesModel", "bad", "Z", false)
  | 20 => ("OpenGatesModel", "ordered", "Z", false)
  | 21 => ("OpenGatesModel", "nClauses", "I", false)
  | 22 => ("OpenGatesModel", "nClause", "[I", true)
  | 23 => ("OpenGatesModel", "nCode", "I", false)
  | 24 => ("OpenGatesModel", "nOp", "[I", true)
  | 25 => ("OpenGatesModel", "nArg", "[I", true)
  | 26 => ("OpenGatesModel", "nLeaves", "I", false)
  | 27 => ("OpenGatesModel", "pile", "[I", true)
  | 28 => ("OpenGatesModel", "pileAt", "[I", true)
  | 29 => ("OpenGatesModel", "piled", "I", false)
  | 30 => ("OpenGatesModel", "opened", "I", false)
  | 31 => ("OpenGatesModel", "words", "[J", true)
  | 32 => ("OpenGatesModel", "orderWords", "[J", true)
  | 33 => ("OpenGatesModel", "heads", "[J", true)
  | 34 => ("OpenGatesModel", "law", "I", false)
  | 35 => ("OpenGatesModel", "set", "[J", true)
  | 36 => ("OpenGatesModel", "now", "[J", true)
  | 37 => ("OpenGatesModel", "rest", "[J", true)
  | 38 => ("OpenGatesModel", "broken", "Z", false)
  | 39 => ("OpenGatesModel", "value", "J", false)
  | 40 => ("OpenGatesModel", "sum", "J", false)
  | 41 => ("OpenGatesModel", "hours", "[I", true)
  | 42 => ("OpenGatesModel", "most", "[I", true)
  | 43 => ("OpenGatesModel", "alike", "[I", true)
  | 44 => ("OpenGatesModel", "acts", "[J", true)
  | 45 => ("OpenGatesModel", "nOrder", "[I", true)
  | 46 => ("OpenGatesModel", "done", "I", false)
  | 47 => ("OpenGatesModel", "latest", "I", false)
  | 48 => ("OpenGatesModel", "stopped", "I", false)
  | 49 => ("OpenGatesModel", "off", "Z", false)
  | 50 => ("OpenGatesModel", "state", "J", false)
  | 51 => ("OpenGatesModel", "drawn", "[I", true)
  | _ => ("OpenGatesModel", "nDrawn", "I", false)
def tyX5 : Nat → FieldType := fun k => match k with
  | 0 => .int
  | 1 => .int
  | 2 => .array .int
  | 3 => .array .int
  | 4 => .array .int
  | 5 => .array .boolean
  | 6 => .array .int
  | 7 => .array .int
  | 8 => .int
  | 9 => .array .int
  | 10 => .array .int
  | 11 => .int
  | 12 => .array .int
  | 13 => .int
  | 14 => .int
  | 15 => .int
  | 16 => .int
  | 17 => .long
  | 18 => .int
  | 19 => .boolean
  | 20 => .boolean
  | 21 => .int
  | 22 => .array .int
  | 23 => .int
  | 24 => .array .int
  | 25 => .array .int
  | 26 => .int
  | 27 => .array .int
  | 28 => .array .int
  | 29 => .int
  | 30 => .int
  | 31 => .array .long
  | 32 => .array .long
  | 33 => .array .long
  | 34 => .int
  | 35 => .array .long
  | 36 => .array .long
  | 37 => .array .long
  | 38 => .boolean
  | 39 => .long
  | 40 => .long
  | 41 => .array .int
  | 42 => .array .int
  | 43 => .array .int
  | 44 => .array .long
  | 45 => .array .int
  | 46 => .int
  | 47 => .int
  | 48 => .int
  | 49 => .boolean
  | 50 => .long
  | 51 => .array .int
  | _ => .int
abbrev wsX50 : List Cond := u_ws RX5 TX5 53
set_option maxRecDepth 100000 in
theorem nmX5 : ∀ a, a < 53 → ∀ b, b < 53 → a ≠ b → (TX5 a).2.1 ≠ (TX5 b).2.1 := by decide +kernel
set_option maxRecDepth 100000 in
theorem tyX5_ok : ∀ k, k < 53 → parseFieldDescriptor (TX5 k).2.2.1 = some (tyX5 k) := by decide +kernel
abbrev cX5_init : ByteArray := prog_22_method_1_code
def yX5_init : MethodName := ⟨RX5, "<init>", "()V"⟩
def dkwX5_init_20 : List UInt8 := [167, 255, 217, 177]
abbrev dktX5_init_20 : List UInt8 := dkwX5_init_20 ++ []
def dkwX5_init_19 : List UInt8 := [42, 180, 0, 13, 16, 43, 27, 96, 8, 79, 42, 180, 0, 13, 16, 49, 27, 96, 4, 79, 132, 1, 1]
abbrev dktX5_init_19 : List UInt8 := dkwX5_init_19 ++ dktX5_init_20
def dkwX5_init_18 : List UInt8 := [132, 1, 1, 167, 255, 237, 3, 60, 27, 16, 6, 162, 0, 39, 42, 180, 0, 13, 16, 37, 27, 96, 8, 79]
abbrev dktX5_init_18 : List UInt8 := dkwX5_init_18 ++ dktX5_init_19
def dkwX5_init_17 : List UInt8 := [17, 1, 244, 79, 3, 60, 27, 7, 162, 0, 20, 42, 180, 0, 13, 16, 9, 27, 96, 16, 50, 79]
abbrev dktX5_init_17 : List UInt8 := dkwX5_init_17 ++ dktX5_init_18
def dkwX5_init_16 : List UInt8 := [188, 10, 181, 0, 136, 42, 2, 181, 0, 139, 42, 180, 0, 13, 8, 2, 79, 42, 180, 0, 13, 16, 7]
abbrev dktX5_init_16 : List UInt8 := dkwX5_init_16 ++ dktX5_init_17
def dkwX5_init_15 : List UInt8 := [20, 0, 125, 80, 181, 0, 127, 42, 16, 96, 188, 10, 181, 0, 130, 42, 2, 181, 0, 133, 42, 16, 22]
abbrev dktX5_init_15 : List UInt8 := dkwX5_init_15 ++ dktX5_init_16
def dkwX5_init_14 : List UInt8 := [7, 188, 11, 89, 3, 20, 0, 119, 80, 89, 4, 20, 0, 121, 80, 89, 5, 20, 0, 123, 80, 89, 6]
abbrev dktX5_init_14 : List UInt8 := dkwX5_init_14 ++ dktX5_init_15
def dkwX5_init_13 : List UInt8 := [16, 6, 188, 10, 181, 0, 110, 42, 16, 99, 188, 10, 181, 0, 113, 42, 16, 66, 188, 10, 181, 0, 116, 42]
abbrev dktX5_init_13 : List UInt8 := dkwX5_init_13 ++ dktX5_init_14
def dkwX5_init_12 : List UInt8 := [188, 11, 181, 0, 101, 42, 16, 13, 188, 11, 181, 0, 104, 42, 17, 1, 144, 188, 11, 181, 0, 107, 42]
abbrev dktX5_init_12 : List UInt8 := dkwX5_init_12 ++ dktX5_init_13
def dkwX5_init_11 : List UInt8 := [4, 20, 0, 94, 80, 89, 5, 20, 0, 87, 80, 89, 6, 20, 0, 96, 80, 181, 0, 98, 42, 16, 13]
abbrev dktX5_init_11 : List UInt8 := dkwX5_init_11 ++ dktX5_init_12
def dkwX5_init_10 : List UInt8 := [20, 0, 85, 80, 89, 8, 20, 0, 87, 80, 181, 0, 89, 42, 7, 188, 11, 89, 3, 20, 0, 92, 80, 89]
abbrev dktX5_init_10 : List UInt8 := dkwX5_init_10 ++ dktX5_init_11
def dkwX5_init_9 : List UInt8 := [20, 0, 73, 80, 89, 4, 20, 0, 81, 80, 89, 5, 20, 0, 83, 80, 89, 6, 20, 0, 59, 80, 89, 7]
abbrev dktX5_init_9 : List UInt8 := dkwX5_init_9 ++ dktX5_init_10
def dkwX5_init_8 : List UInt8 := [89, 16, 8, 20, 0, 73, 80, 89, 16, 9, 20, 0, 75, 80, 181, 0, 77, 42, 16, 6, 188, 11, 89, 3]
abbrev dktX5_init_8 : List UInt8 := dkwX5_init_8 ++ dktX5_init_9
def dkwX5_init_7 : List UInt8 := [20, 0, 65, 80, 89, 8, 20, 0, 67, 80, 89, 16, 6, 20, 0, 69, 80, 89, 16, 7, 20, 0, 71, 80]
abbrev dktX5_init_7 : List UInt8 := dkwX5_init_7 ++ dktX5_init_8
def dkwX5_init_6 : List UInt8 := [20, 0, 57, 80, 89, 4, 20, 0, 59, 80, 89, 5, 20, 0, 61, 80, 89, 6, 20, 0, 63, 80, 89, 7]
abbrev dktX5_init_6 : List UInt8 := dkwX5_init_6 ++ dktX5_init_7
def dkwX5_init_5 : List UInt8 := [17, 1, 144, 188, 10, 181, 0, 51, 42, 17, 1, 144, 188, 10, 181, 0, 54, 42, 16, 10, 188, 11, 89, 3]
abbrev dktX5_init_5 : List UInt8 := dkwX5_init_5 ++ dktX5_init_6
def dkwX5_init_4 : List UInt8 := [181, 0, 42, 42, 17, 1, 144, 188, 10, 181, 0, 45, 42, 17, 1, 144, 188, 10, 181, 0, 48, 42]
abbrev dktX5_init_4 : List UInt8 := dkwX5_init_4 ++ dktX5_init_5
def dkwX5_init_3 : List UInt8 := [181, 0, 32, 42, 17, 1, 144, 188, 10, 181, 0, 35, 42, 2, 181, 0, 38, 42, 16, 96, 188, 10]
abbrev dktX5_init_3 : List UInt8 := dkwX5_init_3 ++ dktX5_init_4
def dkwX5_init_2 : List UInt8 := [42, 16, 16, 188, 10, 181, 0, 26, 42, 17, 1, 144, 188, 10, 181, 0, 29, 42, 16, 16, 188, 10]
abbrev dktX5_init_2 : List UInt8 := dkwX5_init_2 ++ dktX5_init_3
def dkwX5_init_1 : List UInt8 := [17, 43, 92, 188, 10, 181, 0, 16, 42, 5, 188, 4, 181, 0, 19, 42, 17, 1, 194, 188, 10, 181, 0, 23]
abbrev dktX5_init_1 : List UInt8 := dkwX5_init_1 ++ dktX5_init_2
def dkwX5_init_0 : List UInt8 := [42, 183, 0, 1, 42, 16, 7, 188, 10, 181, 0, 7, 42, 17, 21, 174, 188, 10, 181, 0, 13, 42]
abbrev dktX5_init_0 : List UInt8 := dkwX5_init_0 ++ dktX5_init_1
theorem dksX5_init_0 : cX5_init.data.toList.drop 0 = dktX5_init_0 := by decide +kernel
theorem dksX5_init_1 : cX5_init.data.toList.drop 22 = dktX5_init_1 := dk_seg dksX5_init_0 22 rfl rfl
theorem dksX5_init_2 : cX5_init.data.toList.drop 46 = dktX5_init_2 := dk_seg dksX5_init_1 24 rfl rfl
theorem dksX5_init_3 : cX5_init.data.toList.drop 68 = dktX5_init_3 := dk_seg dksX5_init_2 22 rfl rfl
theorem dksX5_init_4 : cX5_init.data.toList.drop 90 = dktX5_init_4 := dk_seg dksX5_init_3 22 rfl rfl
theorem dksX5_init_5 : cX5_init.data.toList.drop 112 = dktX5_init_5 := dk_seg dksX5_init_4 22 rfl rfl
theorem dksX5_init_6 : cX5_init.data.toList.drop 136 = dktX5_init_6 := dk_seg dksX5_init_5 24 rfl rfl
theorem dksX5_init_7 : cX5_init.data.toList.drop 160 = dktX5_init_7 := dk_seg dksX5_init_6 24 rfl rfl
theorem dksX5_init_8 : cX5_init.data.toList.drop 184 = dktX5_init_8 := dk_seg dksX5_init_7 24 rfl rfl
theorem dksX5_init_9 : cX5_init.data.toList.drop 208 = dktX5_init_9 := dk_seg dksX5_init_8 24 rfl rfl
theorem dksX5_init_10 : cX5_init.data.toList.drop 232 = dktX5_init_10 := dk_seg dksX5_init_9 24 rfl rfl
theorem dksX5_init_11 : cX5_init.data.toList.drop 256 = dktX5_init_11 := dk_seg dksX5_init_10 24 rfl rfl
theorem dksX5_init_12 : cX5_init.data.toList.drop 279 = dktX5_init_12 := dk_seg dksX5_init_11 23 rfl rfl
theorem dksX5_init_13 : cX5_init.data.toList.drop 302 = dktX5_init_13 := dk_seg dksX5_init_12 23 rfl rfl
theorem dksX5_init_14 : cX5_init.data.toList.drop 326 = dktX5_init_14 := dk_seg dksX5_init_13 24 rfl rfl
theorem dksX5_init_15 : cX5_init.data.toList.drop 349 = dktX5_init_15 := dk_seg dksX5_init_14 23 rfl rfl
theorem dksX5_init_16 : cX5_init.data.toList.drop 372 = dktX5_init_16 := dk_seg dksX5_init_15 23 rfl rfl
theorem dksX5_init_17 : cX5_init.data.toList.drop 395 = dktX5_init_17 := dk_seg dksX5_init_16 23 rfl rfl
theorem dksX5_init_18 : cX5_init.data.toList.drop 417 = dktX5_init_18 := dk_seg dksX5_init_17 22 rfl rfl
theorem dksX5_init_19 : cX5_init.data.toList.drop 441 = dktX5_init_19 := dk_seg dksX5_init_18 24 rfl rfl
theorem dksX5_init_20 : cX5_init.data.toList.drop 464 = dktX5_init_20 := dk_seg dksX5_init_19 23 rfl rfl
theorem dX5_init_0 : decode cX5_init 0 = .ok (.aload_n 0, 1) := dk_42 (dk_at dksX5_init_0 0 rfl rfl)
theorem dX5_init_1 : decode cX5_init 1 = .ok (.invokespecial 1, 3) := dk_183 0 1 (dk_at dksX5_init_0 1 rfl rfl)
theorem dX5_init_4 : decode cX5_init 4 = .ok (.aload_n 0, 1) := dk_42 (dk_at dksX5_init_0 4 rfl rfl)
theorem dX5_init_5 : decode cX5_init 5 = .ok (.bipush 7, 2) := dk_16 7 (dk_at dksX5_init_0 5 rfl rfl)
theorem dX5_init_7 : decode cX5_init 7 = .ok (.newarray .int, 2) := dk_188_10 (dk_at dksX5_init_0 7 rfl rfl)
theorem dX5_init_9 : decode cX5_init 9 = .ok (.putfield 7, 3) := dk_181 0 7 (dk_at dksX5_init_0 9 rfl rfl)
theorem dX5_init_12 : decode cX5_init 12 = .ok (.aload_n 0, 1) := dk_42 (dk_at dksX5_init_0 12 rfl rfl)
theorem dX5_init_13 : decode cX5_init 13 = .ok (.sipush 5550, 3) := dk_17 21 174 (dk_at dksX5_init_0 13 rfl rfl)
theorem dX5_init_16 : decode cX5_init 16 = .ok (.newarray .int, 2) := dk_188_10 (dk_at dksX5_init_0 16 rfl rfl)
theorem dX5_init_18 : decode cX5_init 18 = .ok (.putfield 13, 3) := dk_181 0 13 (dk_at dksX5_init_0 18 rfl rfl)
theorem dX5_init_21 : decode cX5_init 21 = .ok (.aload_n 0, 1) := dk_42 (dk_at dksX5_init_0 21 rfl rfl)
theorem dX5_init_22 : decode cX5_init 22 = .ok (.sipush 11100, 3) := dk_17 43 92 (dk_at dksX5_init_1 0 rfl rfl)
theorem dX5_init_25 : decode cX5_init 25 = .ok (.newarray .int, 2) := dk_188_10 (dk_at dksX5_init_1 3 rfl rfl)
theorem dX5_init_27 : decode cX5_init 27 = .ok (.putfield 16, 3) := dk_181 0 16 (dk_at dksX5_init_1 5 rfl rfl)
theorem dX5_init_30 : decode cX5_init 30 = .ok (.aload_n 0, 1) := dk_42 (dk_at dksX5_init_1 8 rfl rfl)
theorem dX5_init_31 : decode cX5_init 31 = .ok (.iconst 2, 1) := dk_5 (dk_at dksX5_init_1 9 rfl rfl)
theorem dX5_init_32 : decode cX5_init 32 = .ok (.newarray .boolean, 2) := dk_188_4 (dk_at dksX5_init_1 10 rfl rfl)
theorem dX5_init_34 : decode cX5_init 34 = .ok (.putfield 19, 3) := dk_181 0 19 (dk_at dksX5_init_1 12 rfl rfl)
theorem dX5_init_37 : decode cX5_init 37 = .ok (.aload_n 0, 1) := dk_42 (dk_at dksX5_init_1 15 rfl rfl)
theorem dX5_init_38 : decode cX5_init 38 = .ok (.sipush 450, 3) := dk_17 1 194 (dk_at dksX5_init_1 16 rfl rfl)
theorem dX5_init_41 : decode cX5_init 41 = .ok (.newarray .int, 2) := dk_188_10 (dk_at dksX5_init_1 19 rfl rfl)
theorem dX5_init_43 : decode cX5_init 43 = .ok (.putfield 23, 3) := dk_181 0 23 (dk_at dksX5_init_1 21 rfl rfl)
theorem dX5_init_46 : decode cX5_init 46 = .ok (.aload_n 0, 1) := dk_42 (dk_at dksX5_init_2 0 rfl rfl)
theorem dX5_init_47 : decode cX5_init 47 = .ok (.bipush 16, 2) := dk_16 16 (dk_at dksX5_init_2 1 rfl rfl)
theorem dX5_init_49 : decode cX5_init 49 = .ok (.newarray .int, 2) := dk_188_10 (dk_at dksX5_init_2 3 rfl rfl)
theorem dX5_init_51 : decode cX5_init 51 = .ok (.putfield 26, 3) := dk_181 0 26 (dk_at dksX5_init_2 5 rfl rfl)
theorem dX5_init_54 : decode cX5_init 54 = .ok (.aload_n 0, 1) := dk_42 (dk_at dksX5_init_2 8 rfl rfl)
theorem dX5_init_55 : decode cX5_init 55 = .ok (.sipush 400, 3) := dk_17 1 144 (dk_at dksX5_init_2 9 rfl rfl)
theorem dX5_init_58 : decode cX5_init 58 = .ok (.newarray .int, 2) := dk_188_10 (dk_at dksX5_init_2 12 rfl rfl)
theorem dX5_init_60 : decode cX5_init 60 = .ok (.putfield 29, 3) := dk_181 0 29 (dk_at dksX5_init_2 14 rfl rfl)
theorem dX5_init_63 : decode cX5_init 63 = .ok (.aload_n 0, 1) := dk_42 (dk_at dksX5_init_2 17 rfl rfl)
theorem dX5_init_64 : decode cX5_init 64 = .ok (.bipush 16, 2) := dk_16 16 (dk_at dksX5_init_2 18 rfl rfl)
theorem dX5_init_66 : decode cX5_init 66 = .ok (.newarray .int, 2) := dk_188_10 (dk_at dksX5_init_2 20 rfl rfl)
theorem dX5_init_68 : decode cX5_init 68 = .ok (.putfield 32, 3) := dk_181 0 32 (dk_at dksX5_init_3 0 rfl rfl)
theorem dX5_init_71 : decode cX5_init 71 = .ok (.aload_n 0, 1) := dk_42 (dk_at dksX5_init_3 3 rfl rfl)
theorem dX5_init_72 : decode cX5_init 72 = .ok (.sipush 400, 3) := dk_17 1 144 (dk_at dksX5_init_3 4 rfl rfl)
theorem dX5_init_75 : decode cX5_init 75 = .ok (.newarray .int, 2) := dk_188_10 (dk_at dksX5_init_3 7 rfl rfl)
theorem dX5_init_77 : decode cX5_init 77 = .ok (.putfield 35, 3) := dk_181 0 35 (dk_at dksX5_init_3 9 rfl rfl)
theorem dX5_init_80 : decode cX5_init 80 = .ok (.aload_n 0, 1) := dk_42 (dk_at dksX5_init_3 12 rfl rfl)
theorem dX5_init_81 : decode cX5_init 81 = .ok (.iconst (-1), 1) := dk_2 (dk_at dksX5_init_3 13 rfl rfl)
theorem dX5_init_82 : decode cX5_init 82 = .ok (.putfield 38, 3) := dk_181 0 38 (dk_at dksX5_init_3 14 rfl rfl)
theorem dX5_init_85 : decode cX5_init 85 = .ok (.aload_n 0, 1) := dk_42 (dk_at dksX5_init_3 17 rfl rfl)
theorem dX5_init_86 : decode cX5_init 86 = .ok (.bipush 96, 2) := dk_16 96 (dk_at dksX5_init_3 18 rfl rfl)
theorem dX5_init_88 : decode cX5_init 88 = .ok (.newarray .int, 2) := dk_188_10 (dk_at dksX5_init_3 20 rfl rfl)
theorem dX5_init_90 : decode cX5_init 90 = .ok (.putfield 42, 3) := dk_181 0 42 (dk_at dksX5_init_4 0 rfl rfl)
theorem dX5_init_93 : decode cX5_init 93 = .ok (.aload_n 0, 1) := dk_42 (dk_at dksX5_init_4 3 rfl rfl)
theorem dX5_init_94 : decode cX5_init 94 = .ok (.sipush 400, 3) := dk_17 1 144 (dk_at dksX5_init_4 4 rfl rfl)
theorem dX5_init_97 : decode cX5_init 97 = .ok (.newarray .int, 2) := dk_188_10 (dk_at dksX5_init_4 7 rfl rfl)
theorem dX5_init_99 : decode cX5_init 99 = .ok (.putfield 45, 3) := dk_181 0 45 (dk_at dksX5_init_4 9 rfl rfl)
theorem dX5_init_102 : decode cX5_init 102 = .ok (.aload_n 0, 1) := dk_42 (dk_at dksX5_init_4 12 rfl rfl)
theorem dX5_init_103 : decode cX5_init 103 = .ok (.sipush 400, 3) := dk_17 1 144 (dk_at dksX5_init_4 13 rfl rfl)
theorem dX5_init_106 : decode cX5_init 106 = .ok (.newarray .int, 2) := dk_188_10 (dk_at dksX5_init_4 16 rfl rfl)
theorem dX5_init_108 : decode cX5_init 108 = .ok (.putfield 48, 3) := dk_181 0 48 (dk_at dksX5_init_4 18 rfl rfl)
theorem dX5_init_111 : decode cX5_init 111 = .ok (.aload_n 0, 1) := dk_42 (dk_at dksX5_init_4 21 rfl rfl)
theorem dX5_init_112 : decode cX5_init 112 = .ok (.sipush 400, 3) := dk_17 1 144 (dk_at dksX5_init_5 0 rfl rfl)
theorem dX5_init_115 : decode cX5_init 115 = .ok (.newarray .int, 2) := dk_188_10 (dk_at dksX5_init_5 3 rfl rfl)
theorem dX5_init_117 : decode cX5_init 117 = .ok (.putfield 51, 3) := dk_181 0 51 (dk_at dksX5_init_5 5 rfl rfl)
theorem dX5_init_120 : decode cX5_init 120 = .ok (.aload_n 0, 1) := dk_42 (dk_at dksX5_init_5 8 rfl rfl)
theorem dX5_init_121 : decode cX5_init 121 = .ok (.sipush 400, 3) := dk_17 1 144 (dk_at dksX5_init_5 9 rfl rfl)
theorem dX5_init_124 : decode cX5_init 124 = .ok (.newarray .int, 2) := dk_188_10 (dk_at dksX5_init_5 12 rfl rfl)
theorem dX5_init_126 : decode cX5_init 126 = .ok (.putfield 54, 3) := dk_181 0 54 (dk_at dksX5_init_5 14 rfl rfl)
theorem dX5_init_129 : decode cX5_init 129 = .ok (.aload_n 0, 1) := dk_42 (dk_at dksX5_init_5 17 rfl rfl)
theorem dX5_init_130 : decode cX5_init 130 = .ok (.bipush 10, 2) := dk_16 10 (dk_at dksX5_init_5 18 rfl rfl)
theorem dX5_init_132 : decode cX5_init 132 = .ok (.newarray .long, 2) := dk_188_11 (dk_at dksX5_init_5 20 rfl rfl)
theorem dX5_init_134 : decode cX5_init 134 = .ok (.dup, 1) := dk_89 (dk_at dksX5_init_5 22 rfl rfl)
theorem dX5_init_135 : decode cX5_init 135 = .ok (.iconst 0, 1) := dk_3 (dk_at dksX5_init_5 23 rfl rfl)
theorem dX5_init_136 : decode cX5_init 136 = .ok (.ldc2_w 57, 3) := dk_20 0 57 (dk_at dksX5_init_6 0 rfl rfl)
theorem dX5_init_139 : decode cX5_init 139 = .ok (.lastore, 1) := dk_80 (dk_at dksX5_init_6 3 rfl rfl)
theorem dX5_init_140 : decode cX5_init 140 = .ok (.dup, 1) := dk_89 (dk_at dksX5_init_6 4 rfl rfl)
theorem dX5_init_141 : decode cX5_init 141 = .ok (.iconst 1, 1) := dk_4 (dk_at dksX5_init_6 5 rfl rfl)
theorem dX5_init_142 : decode cX5_init 142 = .ok (.ldc2_w 59, 3) := dk_20 0 59 (dk_at dksX5_init_6 6 rfl rfl)
theorem dX5_init_145 : decode cX5_init 145 = .ok (.lastore, 1) := dk_80 (dk_at dksX5_init_6 9 rfl rfl)
theorem dX5_init_146 : decode cX5_init 146 = .ok (.dup, 1) := dk_89 (dk_at dksX5_init_6 10 rfl rfl)
theorem dX5_init_147 : decode cX5_init 147 = .ok (.iconst 2, 1) := dk_5 (dk_at dksX5_init_6 11 rfl rfl)
theorem dX5_init_148 : decode cX5_init 148 = .ok (.ldc2_w 61, 3) := dk_20 0 61 (dk_at dksX5_init_6 12 rfl rfl)
theorem dX5_init_151 : decode cX5_init 151 = .ok (.lastore, 1) := dk_80 (dk_at dksX5_init_6 15 rfl rfl)
theorem dX5_init_152 : decode cX5_init 152 = .ok (.dup, 1) := dk_89 (dk_at dksX5_init_6 16 rfl rfl)
theorem dX5_init_153 : decode cX5_init 153 = .ok (.iconst 3, 1) := dk_6 (dk_at dksX5_init_6 17 rfl rfl)
theorem dX5_init_154 : decode cX5_init 154 = .ok (.ldc2_w 63, 3) := dk_20 0 63 (dk_at dksX5_init_6 18 rfl rfl)
theorem dX5_init_157 : decode cX5_init 157 = .ok (.lastore, 1) := dk_80 (dk_at dksX5_init_6 21 rfl rfl)
theorem dX5_init_158 : decode cX5_init 158 = .ok (.dup, 1) := dk_89 (dk_at dksX5_init_6 22 rfl rfl)
theorem dX5_init_159 : decode cX5_init 159 = .ok (.iconst 4, 1) := dk_7 (dk_at dksX5_init_6 23 rfl rfl)
theorem dX5_init_160 : decode cX5_init 160 = .ok (.ldc2_w 65, 3) := dk_20 0 65 (dk_at dksX5_init_7 0 rfl rfl)
theorem dX5_init_163 : decode cX5_init 163 = .ok (.lastore, 1) := dk_80 (dk_at dksX5_init_7 3 rfl rfl)
theorem dX5_init_164 : decode cX5_init 164 = .ok (.dup, 1) := dk_89 (dk_at dksX5_init_7 4 rfl rfl)
theorem dX5_init_165 : decode cX5_init 165 = .ok (.iconst 5, 1) := dk_8 (dk_at dksX5_init_7 5 rfl rfl)
theorem dX5_init_166 : decode cX5_init 166 = .ok (.ldc2_w 67, 3) := dk_20 0 67 (dk_at dksX5_init_7 6 rfl rfl)
theorem dX5_init_169 : decode cX5_init 169 = .ok (.lastore, 1) := dk_80 (dk_at dksX5_init_7 9 rfl rfl)
theorem dX5_init_170 : decode cX5_init 170 = .ok (.dup, 1) := dk_89 (dk_at dksX5_init_7 10 rfl rfl)
theorem dX5_init_171 : decode cX5_init 171 = .ok (.bipush 6, 2) := dk_16 6 (dk_at dksX5_init_7 11 rfl rfl)
theorem dX5_init_173 : decode cX5_init 173 = .ok (.ldc2_w 69, 3) := dk_20 0 69 (dk_at dksX5_init_7 13 rfl rfl)
theorem dX5_init_176 : decode cX5_init 176 = .ok (.lastore, 1) := dk_80 (dk_at dksX5_init_7 16 rfl rfl)
theorem dX5_init_177 : decode cX5_init 177 = .ok (.dup, 1) := dk_89 (dk_at dksX5_init_7 17 rfl rfl)
theorem dX5_init_178 : decode cX5_init 178 = .ok (.bipush 7, 2) := dk_16 7 (dk_at dksX5_init_7 18 rfl rfl)
theorem dX5_init_180 : decode cX5_init 180 = .ok (.ldc2_w 71, 3) := dk_20 0 71 (dk_at dksX5_init_7 20 rfl rfl)
theorem dX5_init_183 : decode cX5_init 183 = .ok (.lastore, 1) := dk_80 (dk_at dksX5_init_7 23 rfl rfl)
theorem dX5_init_184 : decode cX5_init 184 = .ok (.dup, 1) := dk_89 (dk_at dksX5_init_8 0 rfl rfl)
theorem dX5_init_185 : decode cX5_init 185 = .ok (.bipush 8, 2) := dk_16 8 (dk_at dksX5_init_8 1 rfl rfl)
theorem dX5_init_187 : decode cX5_init 187 = .ok (.ldc2_w 73, 3) := dk_20 0 73 (dk_at dksX5_init_8 3 rfl rfl)
theorem dX5_init_190 : decode cX5_init 190 = .ok (.lastore, 1) := dk_80 (dk_at dksX5_init_8 6 rfl rfl)
theorem dX5_init_191 : decode cX5_init 191 = .ok (.dup, 1) := dk_89 (dk_at dksX5_init_8 7 rfl rfl)
theorem dX5_init_192 : decode cX5_init 192 = .ok (.bipush 9, 2) := dk_16 9 (dk_at dksX5_init_8 8 rfl rfl)
theorem dX5_init_194 : decode cX5_init 194 = .ok (.ldc2_w 75, 3) := dk_20 0 75 (dk_at dksX5_init_8 10 rfl rfl)
theorem dX5_init_197 : decode cX5_init 197 = .ok (.lastore, 1) := dk_80 (dk_at dksX5_init_8 13 rfl rfl)
theorem dX5_init_198 : decode cX5_init 198 = .ok (.putfield 77, 3) := dk_181 0 77 (dk_at dksX5_init_8 14 rfl rfl)
theorem dX5_init_201 : decode cX5_init 201 = .ok (.aload_n 0, 1) := dk_42 (dk_at dksX5_init_8 17 rfl rfl)
theorem dX5_init_202 : decode cX5_init 202 = .ok (.bipush 6, 2) := dk_16 6 (dk_at dksX5_init_8 18 rfl rfl)
theorem dX5_init_204 : decode cX5_init 204 = .ok (.newarray .long, 2) := dk_188_11 (dk_at dksX5_init_8 20 rfl rfl)
theorem dX5_init_206 : decode cX5_init 206 = .ok (.dup, 1) := dk_89 (dk_at dksX5_init_8 22 rfl rfl)
theorem dX5_init_207 : decode cX5_init 207 = .ok (.iconst 0, 1) := dk_3 (dk_at dksX5_init_8 23 rfl rfl)
theorem dX5_init_208 : decode cX5_init 208 = .ok (.ldc2_w 73, 3) := dk_20 0 73 (dk_at dksX5_init_9 0 rfl rfl)
theorem dX5_init_211 : decode cX5_init 211 = .ok (.lastore, 1) := dk_80 (dk_at dksX5_init_9 3 rfl rfl)
theorem dX5_init_212 : decode cX5_init 212 = .ok (.dup, 1) := dk_89 (dk_at dksX5_init_9 4 rfl rfl)
theorem dX5_init_213 : decode cX5_init 213 = .ok (.iconst 1, 1) := dk_4 (dk_at dksX5_init_9 5 rfl rfl)
theorem dX5_init_214 : decode cX5_init 214 = .ok (.ldc2_w 81, 3) := dk_20 0 81 (dk_at dksX5_init_9 6 rfl rfl)
theorem dX5_init_217 : decode cX5_init 217 = .ok (.lastore, 1) := dk_80 (dk_at dksX5_init_9 9 rfl rfl)
theorem dX5_init_218 : decode cX5_init 218 = .ok (.dup, 1) := dk_89 (dk_at dksX5_init_9 10 rfl rfl)
theorem dX5_init_219 : decode cX5_init 219 = .ok (.iconst 2, 1) := dk_5 (dk_at dksX5_init_9 11 rfl rfl)
theorem dX5_init_220 : decode cX5_init 220 = .ok (.ldc2_w 83, 3) := dk_20 0 83 (dk_at dksX5_init_9 12 rfl rfl)
theorem dX5_init_223 : decode cX5_init 223 = .ok (.lastore, 1) := dk_80 (dk_at dksX5_init_9 15 rfl rfl)
theorem dX5_init_224 : decode cX5_init 224 = .ok (.dup, 1) := dk_89 (dk_at dksX5_init_9 16 rfl rfl)
theorem dX5_init_225 : decode cX5_init 225 = .ok (.iconst 3, 1) := dk_6 (dk_at dksX5_init_9 17 rfl rfl)
theorem dX5_init_226 : decode cX5_init 226 = .ok (.ldc2_w 59, 3) := dk_20 0 59 (dk_at dksX5_init_9 18 rfl rfl)
theorem dX5_init_229 : decode cX5_init 229 = .ok (.lastore, 1) := dk_80 (dk_at dksX5_init_9 21 rfl rfl)
theorem dX5_init_230 : decode cX5_init 230 = .ok (.dup, 1) := dk_89 (dk_at dksX5_init_9 22 rfl rfl)
theorem dX5_init_231 : decode cX5_init 231 = .ok (.iconst 4, 1) := dk_7 (dk_at dksX5_init_9 23 rfl rfl)
theorem dX5_init_232 : decode cX5_init 232 = .ok (.ldc2_w 85, 3) := dk_20 0 85 (dk_at dksX5_init_10 0 rfl rfl)
theorem dX5_init_235 : decode cX5_init 235 = .ok (.lastore, 1) := dk_80 (dk_at dksX5_init_10 3 rfl rfl)
theorem dX5_init_236 : decode cX5_init 236 = .ok (.dup, 1) := dk_89 (dk_at dksX5_init_10 4 rfl rfl)
theorem dX5_init_237 : decode cX5_init 237 = .ok (.iconst 5, 1) := dk_8 (dk_at dksX5_init_10 5 rfl rfl)
theorem dX5_init_238 : decode cX5_init 238 = .ok (.ldc2_w 87, 3) := dk_20 0 87 (dk_at dksX5_init_10 6 rfl rfl)
theorem dX5_init_241 : decode cX5_init 241 = .ok (.lastore, 1) := dk_80 (dk_at dksX5_init_10 9 rfl rfl)
theorem dX5_init_242 : decode cX5_init 242 = .ok (.putfield 89, 3) := dk_181 0 89 (dk_at dksX5_init_10 10 rfl rfl)
theorem dX5_init_245 : decode cX5_init 245 = .ok (.aload_n 0, 1) := dk_42 (dk_at dksX5_init_10 13 rfl rfl)
theorem dX5_init_246 : decode cX5_init 246 = .ok (.iconst 4, 1) := dk_7 (dk_at dksX5_init_10 14 rfl rfl)
theorem dX5_init_247 : decode cX5_init 247 = .ok (.newarray .long, 2) := dk_188_11 (dk_at dksX5_init_10 15 rfl rfl)
theorem dX5_init_249 : decode cX5_init 249 = .ok (.dup, 1) := dk_89 (dk_at dksX5_init_10 17 rfl rfl)
theorem dX5_init_250 : decode cX5_init 250 = .ok (.iconst 0, 1) := dk_3 (dk_at dksX5_init_10 18 rfl rfl)
theorem dX5_init_251 : decode cX5_init 251 = .ok (.ldc2_w 92, 3) := dk_20 0 92 (dk_at dksX5_init_10 19 rfl rfl)
theorem dX5_init_254 : decode cX5_init 254 = .ok (.lastore, 1) := dk_80 (dk_at dksX5_init_10 22 rfl rfl)
theorem dX5_init_255 : decode cX5_init 255 = .ok (.dup, 1) := dk_89 (dk_at dksX5_init_10 23 rfl rfl)
theorem dX5_init_256 : decode cX5_init 256 = .ok (.iconst 1, 1) := dk_4 (dk_at dksX5_init_11 0 rfl rfl)
theorem dX5_init_257 : decode cX5_init 257 = .ok (.ldc2_w 94, 3) := dk_20 0 94 (dk_at dksX5_init_11 1 rfl rfl)
theorem dX5_init_260 : decode cX5_init 260 = .ok (.lastore, 1) := dk_80 (dk_at dksX5_init_11 4 rfl rfl)
theorem dX5_init_261 : decode cX5_init 261 = .ok (.dup, 1) := dk_89 (dk_at dksX5_init_11 5 rfl rfl)
theorem dX5_init_262 : decode cX5_init 262 = .ok (.iconst 2, 1) := dk_5 (dk_at dksX5_init_11 6 rfl rfl)
theorem dX5_init_263 : decode cX5_init 263 = .ok (.ldc2_w 87, 3) := dk_20 0 87 (dk_at dksX5_init_11 7 rfl rfl)
theorem dX5_init_266 : decode cX5_init 266 = .ok (.lastore, 1) := dk_80 (dk_at dksX5_init_11 10 rfl rfl)
theorem dX5_init_267 : decode cX5_init 267 = .ok (.dup, 1) := dk_89 (dk_at dksX5_init_11 11 rfl rfl)
theorem dX5_init_268 : decode cX5_init 268 = .ok (.iconst 3, 1) := dk_6 (dk_at dksX5_init_11 12 rfl rfl)
theorem dX5_init_269 : decode cX5_init 269 = .ok (.ldc2_w 96, 3) := dk_20 0 96 (dk_at dksX5_init_11 13 rfl rfl)
theorem dX5_init_272 : decode cX5_init 272 = .ok (.lastore, 1) := dk_80 (dk_at dksX5_init_11 16 rfl rfl)
theorem dX5_init_273 : decode cX5_init 273 = .ok (.putfield 98, 3) := dk_181 0 98 (dk_at dksX5_init_11 17 rfl rfl)
theorem dX5_init_276 : decode cX5_init 276 = .ok (.aload_n 0, 1) := dk_42 (dk_at dksX5_init_11 20 rfl rfl)
theorem dX5_init_277 : decode cX5_init 277 = .ok (.bipush 13, 2) := dk_16 13 (dk_at dksX5_init_11 21 rfl rfl)
theorem dX5_init_279 : decode cX5_init 279 = .ok (.newarray .long, 2) := dk_188_11 (dk_at dksX5_init_12 0 rfl rfl)
theorem dX5_init_281 : decode cX5_init 281 = .ok (.putfield 101, 3) := dk_181 0 101 (dk_at dksX5_init_12 2 rfl rfl)
theorem dX5_init_284 : decode cX5_init 284 = .ok (.aload_n 0, 1) := dk_42 (dk_at dksX5_init_12 5 rfl rfl)
theorem dX5_init_285 : decode cX5_init 285 = .ok (.bipush 13, 2) := dk_16 13 (dk_at dksX5_init_12 6 rfl rfl)
theorem dX5_init_287 : decode cX5_init 287 = .ok (.newarray .long, 2) := dk_188_11 (dk_at dksX5_init_12 8 rfl rfl)
theorem dX5_init_289 : decode cX5_init 289 = .ok (.putfield 104, 3) := dk_181 0 104 (dk_at dksX5_init_12 10 rfl rfl)
theorem dX5_init_292 : decode cX5_init 292 = .ok (.aload_n 0, 1) := dk_42 (dk_at dksX5_init_12 13 rfl rfl)
theorem dX5_init_293 : decode cX5_init 293 = .ok (.sipush 400, 3) := dk_17 1 144 (dk_at dksX5_init_12 14 rfl rfl)
theorem dX5_init_296 : decode cX5_init 296 = .ok (.newarray .long, 2) := dk_188_11 (dk_at dksX5_init_12 17 rfl rfl)
theorem dX5_init_298 : decode cX5_init 298 = .ok (.putfield 107, 3) := dk_181 0 107 (dk_at dksX5_init_12 19 rfl rfl)
theorem dX5_init_301 : decode cX5_init 301 = .ok (.aload_n 0, 1) := dk_42 (dk_at dksX5_init_12 22 rfl rfl)
theorem dX5_init_302 : decode cX5_init 302 = .ok (.bipush 6, 2) := dk_16 6 (dk_at dksX5_init_13 0 rfl rfl)
theorem dX5_init_304 : decode cX5_init 304 = .ok (.newarray .int, 2) := dk_188_10 (dk_at dksX5_init_13 2 rfl rfl)
theorem dX5_init_306 : decode cX5_init 306 = .ok (.putfield 110, 3) := dk_181 0 110 (dk_at dksX5_init_13 4 rfl rfl)
theorem dX5_init_309 : decode cX5_init 309 = .ok (.aload_n 0, 1) := dk_42 (dk_at dksX5_init_13 7 rfl rfl)
theorem dX5_init_310 : decode cX5_init 310 = .ok (.bipush 99, 2) := dk_16 99 (dk_at dksX5_init_13 8 rfl rfl)
theorem dX5_init_312 : decode cX5_init 312 = .ok (.newarray .int, 2) := dk_188_10 (dk_at dksX5_init_13 10 rfl rfl)
theorem dX5_init_314 : decode cX5_init 314 = .ok (.putfield 113, 3) := dk_181 0 113 (dk_at dksX5_init_13 12 rfl rfl)
theorem dX5_init_317 : decode cX5_init 317 = .ok (.aload_n 0, 1) := dk_42 (dk_at dksX5_init_13 15 rfl rfl)
theorem dX5_init_318 : decode cX5_init 318 = .ok (.bipush 66, 2) := dk_16 66 (dk_at dksX5_init_13 16 rfl rfl)
theorem dX5_init_320 : decode cX5_init 320 = .ok (.newarray .int, 2) := dk_188_10 (dk_at dksX5_init_13 18 rfl rfl)
theorem dX5_init_322 : decode cX5_init 322 = .ok (.putfield 116, 3) := dk_181 0 116 (dk_at dksX5_init_13 20 rfl rfl)
theorem dX5_init_325 : decode cX5_init 325 = .ok (.aload_n 0, 1) := dk_42 (dk_at dksX5_init_13 23 rfl rfl)
theorem dX5_init_326 : decode cX5_init 326 = .ok (.iconst 4, 1) := dk_7 (dk_at dksX5_init_14 0 rfl rfl)
theorem dX5_init_327 : decode cX5_init 327 = .ok (.newarray .long, 2) := dk_188_11 (dk_at dksX5_init_14 1 rfl rfl)
theorem dX5_init_329 : decode cX5_init 329 = .ok (.dup, 1) := dk_89 (dk_at dksX5_init_14 3 rfl rfl)
theorem dX5_init_330 : decode cX5_init 330 = .ok (.iconst 0, 1) := dk_3 (dk_at dksX5_init_14 4 rfl rfl)
theorem dX5_init_331 : decode cX5_init 331 = .ok (.ldc2_w 119, 3) := dk_20 0 119 (dk_at dksX5_init_14 5 rfl rfl)
theorem dX5_init_334 : decode cX5_init 334 = .ok (.lastore, 1) := dk_80 (dk_at dksX5_init_14 8 rfl rfl)
theorem dX5_init_335 : decode cX5_init 335 = .ok (.dup, 1) := dk_89 (dk_at dksX5_init_14 9 rfl rfl)
theorem dX5_init_336 : decode cX5_init 336 = .ok (.iconst 1, 1) := dk_4 (dk_at dksX5_init_14 10 rfl rfl)
theorem dX5_init_337 : decode cX5_init 337 = .ok (.ldc2_w 121, 3) := dk_20 0 121 (dk_at dksX5_init_14 11 rfl rfl)
theorem dX5_init_340 : decode cX5_init 340 = .ok (.lastore, 1) := dk_80 (dk_at dksX5_init_14 14 rfl rfl)
theorem dX5_init_341 : decode cX5_init 341 = .ok (.dup, 1) := dk_89 (dk_at dksX5_init_14 15 rfl rfl)
theorem dX5_init_342 : decode cX5_init 342 = .ok (.iconst 2, 1) := dk_5 (dk_at dksX5_init_14 16 rfl rfl)
theorem dX5_init_343 : decode cX5_init 343 = .ok (.ldc2_w 123, 3) := dk_20 0 123 (dk_at dksX5_init_14 17 rfl rfl)
theorem dX5_init_346 : decode cX5_init 346 = .ok (.lastore, 1) := dk_80 (dk_at dksX5_init_14 20 rfl rfl)
theorem dX5_init_347 : decode cX5_init 347 = .ok (.dup, 1) := dk_89 (dk_at dksX5_init_14 21 rfl rfl)
theorem dX5_init_348 : decode cX5_init 348 = .ok (.iconst 3, 1) := dk_6 (dk_at dksX5_init_14 22 rfl rfl)
theorem dX5_init_349 : decode cX5_init 349 = .ok (.ldc2_w 125, 3) := dk_20 0 125 (dk_at dksX5_init_15 0 rfl rfl)
theorem dX5_init_352 : decode cX5_init 352 = .ok (.lastore, 1) := dk_80 (dk_at dksX5_init_15 3 rfl rfl)
theorem dX5_init_353 : decode cX5_init 353 = .ok (.putfield 127, 3) := dk_181 0 127 (dk_at dksX5_init_15 4 rfl rfl)
theorem dX5_init_356 : decode cX5_init 356 = .ok (.aload_n 0, 1) := dk_42 (dk_at dksX5_init_15 7 rfl rfl)
theorem dX5_init_357 : decode cX5_init 357 = .ok (.bipush 96, 2) := dk_16 96 (dk_at dksX5_init_15 8 rfl rfl)
theorem dX5_init_359 : decode cX5_init 359 = .ok (.newarray .int, 2) := dk_188_10 (dk_at dksX5_init_15 10 rfl rfl)
theorem dX5_init_361 : decode cX5_init 361 = .ok (.putfield 130, 3) := dk_181 0 130 (dk_at dksX5_init_15 12 rfl rfl)
theorem dX5_init_364 : decode cX5_init 364 = .ok (.aload_n 0, 1) := dk_42 (dk_at dksX5_init_15 15 rfl rfl)
theorem dX5_init_365 : decode cX5_init 365 = .ok (.iconst (-1), 1) := dk_2 (dk_at dksX5_init_15 16 rfl rfl)
theorem dX5_init_366 : decode cX5_init 366 = .ok (.putfield 133, 3) := dk_181 0 133 (dk_at dksX5_init_15 17 rfl rfl)
theorem dX5_init_369 : decode cX5_init 369 = .ok (.aload_n 0, 1) := dk_42 (dk_at dksX5_init_15 20 rfl rfl)
theorem dX5_init_370 : decode cX5_init 370 = .ok (.bipush 22, 2) := dk_16 22 (dk_at dksX5_init_15 21 rfl rfl)
theorem dX5_init_372 : decode cX5_init 372 = .ok (.newarray .int, 2) := dk_188_10 (dk_at dksX5_init_16 0 rfl rfl)
theorem dX5_init_374 : decode cX5_init 374 = .ok (.putfield 136, 3) := dk_181 0 136 (dk_at dksX5_init_16 2 rfl rfl)
theorem dX5_init_377 : decode cX5_init 377 = .ok (.aload_n 0, 1) := dk_42 (dk_at dksX5_init_16 5 rfl rfl)
theorem dX5_init_378 : decode cX5_init 378 = .ok (.iconst (-1), 1) := dk_2 (dk_at dksX5_init_16 6 rfl rfl)
theorem dX5_init_379 : decode cX5_init 379 = .ok (.putfield 139, 3) := dk_181 0 139 (dk_at dksX5_init_16 7 rfl rfl)
theorem dX5_init_382 : decode cX5_init 382 = .ok (.aload_n 0, 1) := dk_42 (dk_at dksX5_init_16 10 rfl rfl)
theorem dX5_init_383 : decode cX5_init 383 = .ok (.getfield 13, 3) := dk_180 0 13 (dk_at dksX5_init_16 11 rfl rfl)
theorem dX5_init_386 : decode cX5_init 386 = .ok (.iconst 5, 1) := dk_8 (dk_at dksX5_init_16 14 rfl rfl)
theorem dX5_init_387 : decode cX5_init 387 = .ok (.iconst (-1), 1) := dk_2 (dk_at dksX5_init_16 15 rfl rfl)
theorem dX5_init_388 : decode cX5_init 388 = .ok (.iastore, 1) := dk_79 (dk_at dksX5_init_16 16 rfl rfl)
theorem dX5_init_389 : decode cX5_init 389 = .ok (.aload_n 0, 1) := dk_42 (dk_at dksX5_init_16 17 rfl rfl)
theorem dX5_init_390 : decode cX5_init 390 = .ok (.getfield 13, 3) := dk_180 0 13 (dk_at dksX5_init_16 18 rfl rfl)
theorem dX5_init_393 : decode cX5_init 393 = .ok (.bipush 7, 2) := dk_16 7 (dk_at dksX5_init_16 21 rfl rfl)
theorem dX5_init_395 : decode cX5_init 395 = .ok (.sipush 500, 3) := dk_17 1 244 (dk_at dksX5_init_17 0 rfl rfl)
theorem dX5_init_398 : decode cX5_init 398 = .ok (.iastore, 1) := dk_79 (dk_at dksX5_init_17 3 rfl rfl)
theorem dX5_init_399 : decode cX5_init 399 = .ok (.iconst 0, 1) := dk_3 (dk_at dksX5_init_17 4 rfl rfl)
theorem dX5_init_400 : decode cX5_init 400 = .ok (.istore_n 1, 1) := dk_60 (dk_at dksX5_init_17 5 rfl rfl)
theorem dX5_init_401 : decode cX5_init 401 = .ok (.iload_n 1, 1) := dk_27 (dk_at dksX5_init_17 6 rfl rfl)
theorem dX5_init_402 : decode cX5_init 402 = .ok (.iconst 4, 1) := dk_7 (dk_at dksX5_init_17 7 rfl rfl)
theorem dX5_init_403 : decode cX5_init 403 = .ok (.if_icmp .ge 20, 3) := dk_162 0 20 (dk_at dksX5_init_17 8 rfl rfl)
theorem dX5_init_406 : decode cX5_init 406 = .ok (.aload_n 0, 1) := dk_42 (dk_at dksX5_init_17 11 rfl rfl)
theorem dX5_init_407 : decode cX5_init 407 = .ok (.getfield 13, 3) := dk_180 0 13 (dk_at dksX5_init_17 12 rfl rfl)
theorem dX5_init_410 : decode cX5_init 410 = .ok (.bipush 9, 2) := dk_16 9 (dk_at dksX5_init_17 15 rfl rfl)
theorem dX5_init_412 : decode cX5_init 412 = .ok (.iload_n 1, 1) := dk_27 (dk_at dksX5_init_17 17 rfl rfl)
theorem dX5_init_413 : decode cX5_init 413 = .ok (.iadd, 1) := dk_96 (dk_at dksX5_init_17 18 rfl rfl)
theorem dX5_init_414 : decode cX5_init 414 = .ok (.bipush 50, 2) := dk_16 50 (dk_at dksX5_init_17 19 rfl rfl)
theorem dX5_init_416 : decode cX5_init 416 = .ok (.iastore, 1) := dk_79 (dk_at dksX5_init_17 21 rfl rfl)
theorem dX5_init_417 : decode cX5_init 417 = .ok (.iinc 1 1, 3) := dk_132 1 1 (dk_at dksX5_init_18 0 rfl rfl)
theorem dX5_init_420 : decode cX5_init 420 = .ok (.goto (-19), 3) := dk_167 255 237 (dk_at dksX5_init_18 3 rfl rfl)
theorem dX5_init_423 : decode cX5_init 423 = .ok (.iconst 0, 1) := dk_3 (dk_at dksX5_init_18 6 rfl rfl)
theorem dX5_init_424 : decode cX5_init 424 = .ok (.istore_n 1, 1) := dk_60 (dk_at dksX5_init_18 7 rfl rfl)
theorem dX5_init_425 : decode cX5_init 425 = .ok (.iload_n 1, 1) := dk_27 (dk_at dksX5_init_18 8 rfl rfl)
theorem dX5_init_426 : decode cX5_init 426 = .ok (.bipush 6, 2) := dk_16 6 (dk_at dksX5_init_18 9 rfl rfl)
theorem dX5_init_428 : decode cX5_init 428 = .ok (.if_icmp .ge 39, 3) := dk_162 0 39 (dk_at dksX5_init_18 11 rfl rfl)
theorem dX5_init_431 : decode cX5_init 431 = .ok (.aload_n 0, 1) := dk_42 (dk_at dksX5_init_18 14 rfl rfl)
theorem dX5_init_432 : decode cX5_init 432 = .ok (.getfield 13, 3) := dk_180 0 13 (dk_at dksX5_init_18 15 rfl rfl)
theorem dX5_init_435 : decode cX5_init 435 = .ok (.bipush 37, 2) := dk_16 37 (dk_at dksX5_init_18 18 rfl rfl)
theorem dX5_init_437 : decode cX5_init 437 = .ok (.iload_n 1, 1) := dk_27 (dk_at dksX5_init_18 20 rfl rfl)
theorem dX5_init_438 : decode cX5_init 438 = .ok (.iadd, 1) := dk_96 (dk_at dksX5_init_18 21 rfl rfl)
theorem dX5_init_439 : decode cX5_init 439 = .ok (.iconst 5, 1) := dk_8 (dk_at dksX5_init_18 22 rfl rfl)
theorem dX5_init_440 : decode cX5_init 440 = .ok (.iastore, 1) := dk_79 (dk_at dksX5_init_18 23 rfl rfl)
theorem dX5_init_441 : decode cX5_init 441 = .ok (.aload_n 0, 1) := dk_42 (dk_at dksX5_init_19 0 rfl rfl)
theorem dX5_init_442 : decode cX5_init 442 = .ok (.getfield 13, 3) := dk_180 0 13 (dk_at dksX5_init_19 1 rfl rfl)
theorem dX5_init_445 : decode cX5_init 445 = .ok (.bipush 43, 2) := dk_16 43 (dk_at dksX5_init_19 4 rfl rfl)
theorem dX5_init_447 : decode cX5_init 447 = .ok (.iload_n 1, 1) := dk_27 (dk_at dksX5_init_19 6 rfl rfl)
theorem dX5_init_448 : decode cX5_init 448 = .ok (.iadd, 1) := dk_96 (dk_at dksX5_init_19 7 rfl rfl)
theorem dX5_init_449 : decode cX5_init 449 = .ok (.iconst 5, 1) := dk_8 (dk_at dksX5_init_19 8 rfl rfl)
theorem dX5_init_450 : decode cX5_init 450 = .ok (.iastore, 1) := dk_79 (dk_at dksX5_init_19 9 rfl rfl)
theorem dX5_init_451 : decode cX5_init 451 = .ok (.aload_n 0, 1) := dk_42 (dk_at dksX5_init_19 10 rfl rfl)
theorem dX5_init_452 : decode cX5_init 452 = .ok (.getfield 13, 3) := dk_180 0 13 (dk_at dksX5_init_19 11 rfl rfl)
theorem dX5_init_455 : decode cX5_init 455 = .ok (.bipush 49, 2) := dk_16 49 (dk_at dksX5_init_19 14 rfl rfl)
theorem dX5_init_457 : decode cX5_init 457 = .ok (.iload_n 1, 1) := dk_27 (dk_at dksX5_init_19 16 rfl rfl)
theorem dX5_init_458 : decode cX5_init 458 = .ok (.iadd, 1) := dk_96 (dk_at dksX5_init_19 17 rfl rfl)
theorem dX5_init_459 : decode cX5_init 459 = .ok (.iconst 1, 1) := dk_4 (dk_at dksX5_init_19 18 rfl rfl)
theorem dX5_init_460 : decode cX5_init 460 = .ok (.iastore, 1) := dk_79 (dk_at dksX5_init_19 19 rfl rfl)
theorem dX5_init_461 : decode cX5_init 461 = .ok (.iinc 1 1, 3) := dk_132 1 1 (dk_at dksX5_init_19 20 rfl rfl)
theorem dX5_init_464 : decode cX5_init 464 = .ok (.goto (-39), 3) := dk_167 255 217 (dk_at dksX5_init_20 0 rfl rfl)
theorem dX5_init_467 : decode cX5_init 467 = .ok (.return_, 1) := dk_177 (dk_at dksX5_init_20 3 rfl rfl)
abbrev cX5_undo : ByteArray := prog_22_method_12_code
def yX5_undo : MethodName := ⟨RX5, "undo", "()I"⟩
def dkwX5_undo_2 : List UInt8 := [182, 0, 155, 172]
abbrev dktX5_undo_2 : List UInt8 := dkwX5_undo_2 ++ []
def dkwX5_undo_1 : List UInt8 := [4, 100, 181, 0, 148, 42, 42, 180, 0, 148, 182, 0, 159, 42, 42, 180, 0, 26, 42, 180, 0, 148, 46]
abbrev dktX5_undo_1 : List UInt8 := dkwX5_undo_1 ++ dktX5_undo_2
def dkwX5_undo_0 : List UInt8 := [42, 3, 181, 0, 142, 42, 180, 0, 148, 154, 0, 10, 42, 16, 253, 182, 0, 155, 172, 42, 89, 180, 0, 148]
abbrev dktX5_undo_0 : List UInt8 := dkwX5_undo_0 ++ dktX5_undo_1
theorem dksX5_undo_0 : cX5_undo.data.toList.drop 0 = dktX5_undo_0 := by decide +kernel
theorem dksX5_undo_1 : cX5_undo.data.toList.drop 24 = dktX5_undo_1 := dk_seg dksX5_undo_0 24 rfl rfl
theorem dksX5_undo_2 : cX5_undo.data.toList.drop 47 = dktX5_undo_2 := dk_seg dksX5_undo_1 23 rfl rfl
theorem dX5_undo_0 : decode cX5_undo 0 = .ok (.aload_n 0, 1) := dk_42 (dk_at dksX5_undo_0 0 rfl rfl)
theorem dX5_undo_1 : decode cX5_undo 1 = .ok (.iconst 0, 1) := dk_3 (dk_at dksX5_undo_0 1 rfl rfl)
theorem dX5_undo_2 : decode cX5_undo 2 = .ok (.putfield 142, 3) := dk_181 0 142 (dk_at dksX5_undo_0 2 rfl rfl)
theorem dX5_undo_5 : decode cX5_undo 5 = .ok (.aload_n 0, 1) := dk_42 (dk_at dksX5_undo_0 5 rfl rfl)
theorem dX5_undo_6 : decode cX5_undo 6 = .ok (.getfield 148, 3) := dk_180 0 148 (dk_at dksX5_undo_0 6 rfl rfl)
theorem dX5_undo_9 : decode cX5_undo 9 = .ok (.ifCond .ne 10, 3) := dk_154 0 10 (dk_at dksX5_undo_0 9 rfl rfl)
theorem dX5_undo_12 : decode cX5_undo 12 = .ok (.aload_n 0, 1) := dk_42 (dk_at dksX5_undo_0 12 rfl rfl)
theorem dX5_undo_13 : decode cX5_undo 13 = .ok (.bipush (-3), 2) := dk_16 253 (dk_at dksX5_undo_0 13 rfl rfl)
theorem dX5_undo_15 : decode cX5_undo 15 = .ok (.invokevirtual 155, 3) := dk_182 0 155 (dk_at dksX5_undo_0 15 rfl rfl)
theorem dX5_undo_18 : decode cX5_undo 18 = .ok (.ireturn, 1) := dk_172 (dk_at dksX5_undo_0 18 rfl rfl)
theorem dX5_undo_19 : decode cX5_undo 19 = .ok (.aload_n 0, 1) := dk_42 (dk_at dksX5_undo_0 19 rfl rfl)
theorem dX5_undo_20 : decode cX5_undo 20 = .ok (.dup, 1) := dk_89 (dk_at dksX5_undo_0 20 rfl rfl)
theorem dX5_undo_21 : decode cX5_undo 21 = .ok (.getfield 148, 3) := dk_180 0 148 (dk_at dksX5_undo_0 21 rfl rfl)
theorem dX5_undo_24 : decode cX5_undo 24 = .ok (.iconst 1, 1) := dk_4 (dk_at dksX5_undo_1 0 rfl rfl)
theorem dX5_undo_25 : decode cX5_undo 25 = .ok (.isub, 1) := dk_100 (dk_at dksX5_undo_1 1 rfl rfl)
theorem dX5_undo_26 : decode cX5_undo 26 = .ok (.putfield 148, 3) := dk_181 0 148 (dk_at dksX5_undo_1 2 rfl rfl)
theorem dX5_undo_29 : decode cX5_undo 29 = .ok (.aload_n 0, 1) := dk_42 (dk_at dksX5_undo_1 5 rfl rfl)
theorem dX5_undo_30 : decode cX5_undo 30 = .ok (.aload_n 0, 1) := dk_42 (dk_at dksX5_undo_1 6 rfl rfl)
theorem dX5_undo_31 : decode cX5_undo 31 = .ok (.getfield 148, 3) := dk_180 0 148 (dk_at dksX5_undo_1 7 rfl rfl)
theorem dX5_undo_34 : decode cX5_undo 34 = .ok (.invokevirtual 159, 3) := dk_182 0 159 (dk_at dksX5_undo_1 10 rfl rfl)
theorem dX5_undo_37 : decode cX5_undo 37 = .ok (.aload_n 0, 1) := dk_42 (dk_at dksX5_undo_1 13 rfl rfl)
theorem dX5_undo_38 : decode cX5_undo 38 = .ok (.aload_n 0, 1) := dk_42 (dk_at dksX5_undo_1 14 rfl rfl)
theorem dX5_undo_39 : decode cX5_undo 39 = .ok (.getfield 26, 3) := dk_180 0 26 (dk_at dksX5_undo_1 15 rfl rfl)
theorem dX5_undo_42 : decode cX5_undo 42 = .ok (.aload_n 0, 1) := dk_42 (dk_at dksX5_undo_1 18 rfl rfl)
theorem dX5_undo_43 : decode cX5_undo 43 = .ok (.getfield 148, 3) := dk_180 0 148 (dk_at dksX5_undo_1 19 rfl rfl)
theorem dX5_undo_46 : decode cX5_undo 46 = .ok (.iaload, 1) := dk_46 (dk_at dksX5_undo_1 22 rfl rfl)
theorem dX5_undo_47 : decode cX5_undo 47 = .ok (.invokevirtual 155, 3) := dk_182 0 155 (dk_at dksX5_undo_2 0 rfl rfl)
theorem dX5_undo_50 : decode cX5_undo 50 = .ok (.ireturn, 1) := dk_172 (dk_at dksX5_undo_2 3 rfl rfl)
abbrev cX5_tell : ByteArray := prog_22_method_7_code
def yX5_tell : MethodName := ⟨RX5, "tell", "(I)I"⟩
def dkwX5_tell_1 : List UInt8 := [46, 4, 96, 79, 27, 172]
abbrev dktX5_tell_1 : List UInt8 := dkwX5_tell_1 ++ []
def dkwX5_tell_0 : List UInt8 := [42, 27, 156, 0, 7, 27, 167, 0, 4, 3, 181, 0, 145, 27, 156, 0, 14, 42, 180, 0, 7, 27, 116, 92]
abbrev dktX5_tell_0 : List UInt8 := dkwX5_tell_0 ++ dktX5_tell_1
theorem dksX5_tell_0 : cX5_tell.data.toList.drop 0 = dktX5_tell_0 := by decide +kernel
theorem dksX5_tell_1 : cX5_tell.data.toList.drop 24 = dktX5_tell_1 := dk_seg dksX5_tell_0 24 rfl rfl
theorem dX5_tell_0 : decode cX5_tell 0 = .ok (.aload_n 0, 1) := dk_42 (dk_at dksX5_tell_0 0 rfl rfl)
theorem dX5_tell_1 : decode cX5_tell 1 = .ok (.iload_n 1, 1) := dk_27 (dk_at dksX5_tell_0 1 rfl rfl)
theorem dX5_tell_2 : decode cX5_tell 2 = .ok (.ifCond .ge 7, 3) := dk_156 0 7 (dk_at dksX5_tell_0 2 rfl rfl)
theorem dX5_tell_5 : decode cX5_tell 5 = .ok (.iload_n 1, 1) := dk_27 (dk_at dksX5_tell_0 5 rfl rfl)
theorem dX5_tell_6 : decode cX5_tell 6 = .ok (.goto 4, 3) := dk_167 0 4 (dk_at dksX5_tell_0 6 rfl rfl)
theorem dX5_tell_9 : decode cX5_tell 9 = .ok (.iconst 0, 1) := dk_3 (dk_at dksX5_tell_0 9 rfl rfl)
theorem dX5_tell_10 : decode cX5_tell 10 = .ok (.putfield 145, 3) := dk_181 0 145 (dk_at dksX5_tell_0 10 rfl rfl)
theorem dX5_tell_13 : decode cX5_tell 13 = .ok (.iload_n 1, 1) := dk_27 (dk_at dksX5_tell_0 13 rfl rfl)
theorem dX5_tell_14 : decode cX5_tell 14 = .ok (.ifCond .ge 14, 3) := dk_156 0 14 (dk_at dksX5_tell_0 14 rfl rfl)
theorem dX5_tell_17 : decode cX5_tell 17 = .ok (.aload_n 0, 1) := dk_42 (dk_at dksX5_tell_0 17 rfl rfl)
theorem dX5_tell_18 : decode cX5_tell 18 = .ok (.getfield 7, 3) := dk_180 0 7 (dk_at dksX5_tell_0 18 rfl rfl)
theorem dX5_tell_21 : decode cX5_tell 21 = .ok (.iload_n 1, 1) := dk_27 (dk_at dksX5_tell_0 21 rfl rfl)
theorem dX5_tell_22 : decode cX5_tell 22 = .ok (.ineg, 1) := dk_116 (dk_at dksX5_tell_0 22 rfl rfl)
theorem dX5_tell_23 : decode cX5_tell 23 = .ok (.dup2, 1) := dk_92 (dk_at dksX5_tell_0 23 rfl rfl)
theorem dX5_tell_24 : decode cX5_tell 24 = .ok (.iaload, 1) := dk_46 (dk_at dksX5_tell_1 0 rfl rfl)
theorem dX5_tell_25 : decode cX5_tell 25 = .ok (.iconst 1, 1) := dk_4 (dk_at dksX5_tell_1 1 rfl rfl)
theorem dX5_tell_26 : decode cX5_tell 26 = .ok (.iadd, 1) := dk_96 (dk_at dksX5_tell_1 2 rfl rfl)
theorem dX5_tell_27 : decode cX5_tell 27 = .ok (.iastore, 1) := dk_79 (dk_at dksX5_tell_1 3 rfl rfl)
theorem dX5_tell_28 : decode cX5_tell 28 = .ok (.iload_n 1, 1) := dk_27 (dk_at dksX5_tell_1 4 rfl rfl)
theorem dX5_tell_29 : decode cX5_tell 29 = .ok (.ireturn, 1) := dk_172 (dk_at dksX5_tell_1 5 rfl rfl)
abbrev cX5_putBack : ByteArray := prog_22_method_10_code
def yX5_putBack : MethodName := ⟨RX5, "putBack", "(I)V"⟩
def dkwX5_putBack_1 : List UInt8 := [28, 96, 46, 79, 132, 2, 1, 167, 255, 227, 177]
abbrev dktX5_putBack_1 : List UInt8 := dkwX5_putBack_1 ++ []
def dkwX5_putBack_0 : List UInt8 := [3, 61, 28, 16, 25, 162, 0, 29, 42, 180, 0, 13, 16, 6, 28, 96, 42, 180, 0, 23, 16, 25, 27, 104]
abbrev dktX5_putBack_0 : List UInt8 := dkwX5_putBack_0 ++ dktX5_putBack_1
theorem dksX5_putBack_0 : cX5_putBack.data.toList.drop 0 = dktX5_putBack_0 := by decide +kernel
theorem dksX5_putBack_1 : cX5_putBack.data.toList.drop 24 = dktX5_putBack_1 := dk_seg dksX5_putBack_0 24 rfl rfl
theorem dX5_putBack_0 : decode cX5_putBack 0 = .ok (.iconst 0, 1) := dk_3 (dk_at dksX5_putBack_0 0 rfl rfl)
theorem dX5_putBack_1 : decode cX5_putBack 1 = .ok (.istore_n 2, 1) := dk_61 (dk_at dksX5_putBack_0 1 rfl rfl)
theorem dX5_putBack_2 : decode cX5_putBack 2 = .ok (.iload_n 2, 1) := dk_28 (dk_at dksX5_putBack_0 2 rfl rfl)
theorem dX5_putBack_3 : decode cX5_putBack 3 = .ok (.bipush 25, 2) := dk_16 25 (dk_at dksX5_putBack_0 3 rfl rfl)
theorem dX5_putBack_5 : decode cX5_putBack 5 = .ok (.if_icmp .ge 29, 3) := dk_162 0 29 (dk_at dksX5_putBack_0 5 rfl rfl)
theorem dX5_putBack_8 : decode cX5_putBack 8 = .ok (.aload_n 0, 1) := dk_42 (dk_at dksX5_putBack_0 8 rfl rfl)
theorem dX5_putBack_9 : decode cX5_putBack 9 = .ok (.getfield 13, 3) := dk_180 0 13 (dk_at dksX5_putBack_0 9 rfl rfl)
theorem dX5_putBack_12 : decode cX5_putBack 12 = .ok (.bipush 6, 2) := dk_16 6 (dk_at dksX5_putBack_0 12 rfl rfl)
theorem dX5_putBack_14 : decode cX5_putBack 14 = .ok (.iload_n 2, 1) := dk_28 (dk_at dksX5_putBack_0 14 rfl rfl)
theorem dX5_putBack_15 : decode cX5_putBack 15 = .ok (.iadd, 1) := dk_96 (dk_at dksX5_putBack_0 15 rfl rfl)
theorem dX5_putBack_16 : decode cX5_putBack 16 = .ok (.aload_n 0, 1) := dk_42 (dk_at dksX5_putBack_0 16 rfl rfl)
theorem dX5_putBack_17 : decode cX5_putBack 17 = .ok (.getfield 23, 3) := dk_180 0 23 (dk_at dksX5_putBack_0 17 rfl rfl)
theorem dX5_putBack_20 : decode cX5_putBack 20 = .ok (.bipush 25, 2) := dk_16 25 (dk_at dksX5_putBack_0 20 rfl rfl)
theorem dX5_putBack_22 : decode cX5_putBack 22 = .ok (.iload_n 1, 1) := dk_27 (dk_at dksX5_putBack_0 22 rfl rfl)
theorem dX5_putBack_23 : decode cX5_putBack 23 = .ok (.imul, 1) := dk_104 (dk_at dksX5_putBack_0 23 rfl rfl)
theorem dX5_putBack_24 : decode cX5_putBack 24 = .ok (.iload_n 2, 1) := dk_28 (dk_at dksX5_putBack_1 0 rfl rfl)
theorem dX5_putBack_25 : decode cX5_putBack 25 = .ok (.iadd, 1) := dk_96 (dk_at dksX5_putBack_1 1 rfl rfl)
theorem dX5_putBack_26 : decode cX5_putBack 26 = .ok (.iaload, 1) := dk_46 (dk_at dksX5_putBack_1 2 rfl rfl)
theorem dX5_putBack_27 : decode cX5_putBack 27 = .ok (.iastore, 1) := dk_79 (dk_at dksX5_putBack_1 3 rfl rfl)
theorem dX5_putBack_28 : decode cX5_putBack 28 = .ok (.iinc 2 1, 3) := dk_132 2 1 (dk_at dksX5_putBack_1 4 rfl rfl)
theorem dX5_putBack_31 : decode cX5_putBack 31 = .ok (.goto (-29), 3) := dk_167 255 227 (dk_at dksX5_putBack_1 7 rfl rfl)
theorem dX5_putBack_34 : decode cX5_putBack 34 = .ok (.return_, 1) := dk_177 (dk_at dksX5_putBack_1 10 rfl rfl)
abbrev cX5_image : ByteArray := prog_22_method_13_code
def yX5_image : MethodName := ⟨RX5, "image", "(I)I"⟩
def dkwX5_image_2 : List UInt8 := [132, 2, 1, 167, 255, 228, 42, 180, 0, 19, 27, 4, 84, 42, 3, 182, 0, 155, 172]
abbrev dktX5_image_2 : List UInt8 := dkwX5_image_2 ++ []
def dkwX5_image_1 : List UInt8 := [17, 21, 174, 162, 0, 27, 42, 180, 0, 16, 17, 21, 174, 27, 104, 28, 96, 42, 180, 0, 13, 28, 46, 79]
abbrev dktX5_image_1 : List UInt8 := dkwX5_image_1 ++ dktX5_image_2
def dkwX5_image_0 : List UInt8 := [42, 3, 181, 0, 142, 27, 133, 9, 10, 184, 0, 162, 154, 0, 9, 42, 2, 182, 0, 155, 172, 3, 61, 28]
abbrev dktX5_image_0 : List UInt8 := dkwX5_image_0 ++ dktX5_image_1
theorem dksX5_image_0 : cX5_image.data.toList.drop 0 = dktX5_image_0 := by decide +kernel
theorem dksX5_image_1 : cX5_image.data.toList.drop 24 = dktX5_image_1 := dk_seg dksX5_image_0 24 rfl rfl
theorem dksX5_image_2 : cX5_image.data.toList.drop 48 = dktX5_image_2 := dk_seg dksX5_image_1 24 rfl rfl
theorem dX5_image_0 : decode cX5_image 0 = .ok (.aload_n 0, 1) := dk_42 (dk_at dksX5_image_0 0 rfl rfl)
theorem dX5_image_1 : decode cX5_image 1 = .ok (.iconst 0, 1) := dk_3 (dk_at dksX5_image_0 1 rfl rfl)
theorem dX5_image_2 : decode cX5_image 2 = .ok (.putfield 142, 3) := dk_181 0 142 (dk_at dksX5_image_0 2 rfl rfl)
theorem dX5_image_5 : decode cX5_image 5 = .ok (.iload_n 1, 1) := dk_27 (dk_at dksX5_image_0 5 rfl rfl)
theorem dX5_image_6 : decode cX5_image 6 = .ok (.i2l, 1) := dk_133 (dk_at dksX5_image_0 6 rfl rfl)
theorem dX5_image_7 : decode cX5_image 7 = .ok (.lconst 0, 1) := dk_9 (dk_at dksX5_image_0 7 rfl rfl)
theorem dX5_image_8 : decode cX5_image 8 = .ok (.lconst 1, 1) := dk_10 (dk_at dksX5_image_0 8 rfl rfl)
theorem dX5_image_9 : decode cX5_image 9 = .ok (.invokestatic 162, 3) := dk_184 0 162 (dk_at dksX5_image_0 9 rfl rfl)
theorem dX5_image_12 : decode cX5_image 12 = .ok (.ifCond .ne 9, 3) := dk_154 0 9 (dk_at dksX5_image_0 12 rfl rfl)
theorem dX5_image_15 : decode cX5_image 15 = .ok (.aload_n 0, 1) := dk_42 (dk_at dksX5_image_0 15 rfl rfl)
theorem dX5_image_16 : decode cX5_image 16 = .ok (.iconst (-1), 1) := dk_2 (dk_at dksX5_image_0 16 rfl rfl)
theorem dX5_image_17 : decode cX5_image 17 = .ok (.invokevirtual 155, 3) := dk_182 0 155 (dk_at dksX5_image_0 17 rfl rfl)
theorem dX5_image_20 : decode cX5_image 20 = .ok (.ireturn, 1) := dk_172 (dk_at dksX5_image_0 20 rfl rfl)
theorem dX5_image_21 : decode cX5_image 21 = .ok (.iconst 0, 1) := dk_3 (dk_at dksX5_image_0 21 rfl rfl)
theorem dX5_image_22 : decode cX5_image 22 = .ok (.istore_n 2, 1) := dk_61 (dk_at dksX5_image_0 22 rfl rfl)
theorem dX5_image_23 : decode cX5_image 23 = .ok (.iload_n 2, 1) := dk_28 (dk_at dksX5_image_0 23 rfl rfl)
theorem dX5_image_24 : decode cX5_image 24 = .ok (.sipush 5550, 3) := dk_17 21 174 (dk_at dksX5_image_1 0 rfl rfl)
theorem dX5_image_27 : decode cX5_image 27 = .ok (.if_icmp .ge 27, 3) := dk_162 0 27 (dk_at dksX5_image_1 3 rfl rfl)
theorem dX5_image_30 : decode cX5_image 30 = .ok (.aload_n 0, 1) := dk_42 (dk_at dksX5_image_1 6 rfl rfl)
theorem dX5_image_31 : decode cX5_image 31 = .ok (.getfield 16, 3) := dk_180 0 16 (dk_at dksX5_image_1 7 rfl rfl)
theorem dX5_image_34 : decode cX5_image 34 = .ok (.sipush 5550, 3) := dk_17 21 174 (dk_at dksX5_image_1 10 rfl rfl)
theorem dX5_image_37 : decode cX5_image 37 = .ok (.iload_n 1, 1) := dk_27 (dk_at dksX5_image_1 13 rfl rfl)
theorem dX5_image_38 : decode cX5_image 38 = .ok (.imul, 1) := dk_104 (dk_at dksX5_image_1 14 rfl rfl)
theorem dX5_image_39 : decode cX5_image 39 = .ok (.iload_n 2, 1) := dk_28 (dk_at dksX5_image_1 15 rfl rfl)
theorem dX5_image_40 : decode cX5_image 40 = .ok (.iadd, 1) := dk_96 (dk_at dksX5_image_1 16 rfl rfl)
theorem dX5_image_41 : decode cX5_image 41 = .ok (.aload_n 0, 1) := dk_42 (dk_at dksX5_image_1 17 rfl rfl)
theorem dX5_image_42 : decode cX5_image 42 = .ok (.getfield 13, 3) := dk_180 0 13 (dk_at dksX5_image_1 18 rfl rfl)
theorem dX5_image_45 : decode cX5_image 45 = .ok (.iload_n 2, 1) := dk_28 (dk_at dksX5_image_1 21 rfl rfl)
theorem dX5_image_46 : decode cX5_image 46 = .ok (.iaload, 1) := dk_46 (dk_at dksX5_image_1 22 rfl rfl)
theorem dX5_image_47 : decode cX5_image 47 = .ok (.iastore, 1) := dk_79 (dk_at dksX5_image_1 23 rfl rfl)
theorem dX5_image_48 : decode cX5_image 48 = .ok (.iinc 2 1, 3) := dk_132 2 1 (dk_at dksX5_image_2 0 rfl rfl)
theorem dX5_image_51 : decode cX5_image 51 = .ok (.goto (-28), 3) := dk_167 255 228 (dk_at dksX5_image_2 3 rfl rfl)
theorem dX5_image_54 : decode cX5_image 54 = .ok (.aload_n 0, 1) := dk_42 (dk_at dksX5_image_2 6 rfl rfl)
theorem dX5_image_55 : decode cX5_image 55 = .ok (.getfield 19, 3) := dk_180 0 19 (dk_at dksX5_image_2 7 rfl rfl)
theorem dX5_image_58 : decode cX5_image 58 = .ok (.iload_n 1, 1) := dk_27 (dk_at dksX5_image_2 10 rfl rfl)
theorem dX5_image_59 : decode cX5_image 59 = .ok (.iconst 1, 1) := dk_4 (dk_at dksX5_image_2 11 rfl rfl)
theorem dX5_image_60 : decode cX5_image 60 = .ok (.bastore, 1) := dk_84 (dk_at dksX5_image_2 12 rfl rfl)
theorem dX5_image_61 : decode cX5_image 61 = .ok (.aload_n 0, 1) := dk_42 (dk_at dksX5_image_2 13 rfl rfl)
theorem dX5_image_62 : decode cX5_image 62 = .ok (.iconst 0, 1) := dk_3 (dk_at dksX5_image_2 14 rfl rfl)
theorem dX5_image_63 : decode cX5_image 63 = .ok (.invokevirtual 155, 3) := dk_182 0 155 (dk_at dksX5_image_2 15 rfl rfl)
theorem dX5_image_66 : decode cX5_image 66 = .ok (.ireturn, 1) := dk_172 (dk_at dksX5_image_2 18 rfl rfl)
abbrev cX5_in : ByteArray := prog_22_method_3_code
def yX5_in : MethodName := ⟨RX5, "in", "(JJJ)Z"⟩
def dkwX5_in_0 : List UInt8 := [30, 32, 148, 155, 0, 14, 30, 22, 4, 148, 157, 0, 7, 4, 167, 0, 4, 3, 172]
abbrev dktX5_in_0 : List UInt8 := dkwX5_in_0 ++ []
theorem dksX5_in_0 : cX5_in.data.toList.drop 0 = dktX5_in_0 := by decide +kernel
theorem dX5_in_0 : decode cX5_in 0 = .ok (.lload_n 0, 1) := dk_30 (dk_at dksX5_in_0 0 rfl rfl)
theorem dX5_in_1 : decode cX5_in 1 = .ok (.lload_n 2, 1) := dk_32 (dk_at dksX5_in_0 1 rfl rfl)
theorem dX5_in_2 : decode cX5_in 2 = .ok (.lcmp, 1) := dk_148 (dk_at dksX5_in_0 2 rfl rfl)
theorem dX5_in_3 : decode cX5_in 3 = .ok (.ifCond .lt 14, 3) := dk_155 0 14 (dk_at dksX5_in_0 3 rfl rfl)
theorem dX5_in_6 : decode cX5_in 6 = .ok (.lload_n 0, 1) := dk_30 (dk_at dksX5_in_0 6 rfl rfl)
theorem dX5_in_7 : decode cX5_in 7 = .ok (.lload 4, 2) := dk_22 4 (dk_at dksX5_in_0 7 rfl rfl)
theorem dX5_in_9 : decode cX5_in 9 = .ok (.lcmp, 1) := dk_148 (dk_at dksX5_in_0 9 rfl rfl)
theorem dX5_in_10 : decode cX5_in 10 = .ok (.ifCond .gt 7, 3) := dk_157 0 7 (dk_at dksX5_in_0 10 rfl rfl)
theorem dX5_in_13 : decode cX5_in 13 = .ok (.iconst 1, 1) := dk_4 (dk_at dksX5_in_0 13 rfl rfl)
theorem dX5_in_14 : decode cX5_in 14 = .ok (.goto 4, 3) := dk_167 0 4 (dk_at dksX5_in_0 14 rfl rfl)
theorem dX5_in_17 : decode cX5_in 17 = .ok (.iconst 0, 1) := dk_3 (dk_at dksX5_in_0 17 rfl rfl)
theorem dX5_in_18 : decode cX5_in 18 = .ok (.ireturn, 1) := dk_172 (dk_at dksX5_in_0 18 rfl rfl)
abbrev cX5_back : ByteArray := prog_22_method_14_code
def yX5_back : MethodName := ⟨RX5, "back", "(I)I"⟩
def dkwX5_back_3 : List UInt8 := [42, 3, 181, 0, 148, 42, 3, 182, 0, 155, 172]
abbrev dktX5_back_3 : List UInt8 := dkwX5_back_3 ++ []
def dkwX5_back_2 : List UInt8 := [42, 180, 0, 13, 28, 42, 180, 0, 16, 17, 21, 174, 27, 104, 28, 96, 46, 79, 132, 2, 1, 167, 255, 228]
abbrev dktX5_back_2 : List UInt8 := dkwX5_back_2 ++ dktX5_back_3
def dkwX5_back_1 : List UInt8 := [180, 0, 19, 27, 51, 154, 0, 10, 42, 16, 254, 182, 0, 155, 172, 3, 61, 28, 17, 21, 174, 162, 0, 27]
abbrev dktX5_back_1 : List UInt8 := dkwX5_back_1 ++ dktX5_back_2
def dkwX5_back_0 : List UInt8 := [42, 3, 181, 0, 142, 27, 133, 9, 10, 184, 0, 162, 154, 0, 9, 42, 2, 182, 0, 155, 172, 42]
abbrev dktX5_back_0 : List UInt8 := dkwX5_back_0 ++ dktX5_back_1
theorem dksX5_back_0 : cX5_back.data.toList.drop 0 = dktX5_back_0 := by decide +kernel
theorem dksX5_back_1 : cX5_back.data.toList.drop 22 = dktX5_back_1 := dk_seg dksX5_back_0 22 rfl rfl
theorem dksX5_back_2 : cX5_back.data.toList.drop 46 = dktX5_back_2 := dk_seg dksX5_back_1 24 rfl rfl
theorem dksX5_back_3 : cX5_back.data.toList.drop 70 = dktX5_back_3 := dk_seg dksX5_back_2 24 rfl rfl
theorem dX5_back_0 : decode cX5_back 0 = .ok (.aload_n 0, 1) := dk_42 (dk_at dksX5_back_0 0 rfl rfl)
theorem dX5_back_1 : decode cX5_back 1 = .ok (.iconst 0, 1) := dk_3 (dk_at dksX5_back_0 1 rfl rfl)
theorem dX5_back_2 : decode cX5_back 2 = .ok (.putfield 142, 3) := dk_181 0 142 (dk_at dksX5_back_0 2 rfl rfl)
theorem dX5_back_5 : decode cX5_back 5 = .ok (.iload_n 1, 1) := dk_27 (dk_at dksX5_back_0 5 rfl rfl)
theorem dX5_back_6 : decode cX5_back 6 = .ok (.i2l, 1) := dk_133 (dk_at dksX5_back_0 6 rfl rfl)
theorem dX5_back_7 : decode cX5_back 7 = .ok (.lconst 0, 1) := dk_9 (dk_at dksX5_back_0 7 rfl rfl)
theorem dX5_back_8 : decode cX5_back 8 = .ok (.lconst 1, 1) := dk_10 (dk_at dksX5_back_0 8 rfl rfl)
theorem dX5_back_9 : decode cX5_back 9 = .ok (.invokestatic 162, 3) := dk_184 0 162 (dk_at dksX5_back_0 9 rfl rfl)
theorem dX5_back_12 : decode cX5_back 12 = .ok (.ifCond .ne 9, 3) := dk_154 0 9 (dk_at dksX5_back_0 12 rfl rfl)
theorem dX5_back_15 : decode cX5_back 15 = .ok (.aload_n 0, 1) := dk_42 (dk_at dksX5_back_0 15 rfl rfl)
theorem dX5_back_16 : decode cX5_back 16 = .ok (.iconst (-1), 1) := dk_2 (dk_at dksX5_back_0 16 rfl rfl)
theorem dX5_back_17 : decode cX5_back 17 = .ok (.invokevirtual 155, 3) := dk_182 0 155 (dk_at dksX5_back_0 17 rfl rfl)
theorem dX5_back_20 : decode cX5_back 20 = .ok (.ireturn, 1) := dk_172 (dk_at dksX5_back_0 20 rfl rfl)
theorem dX5_back_21 : decode cX5_back 21 = .ok (.aload_n 0, 1) := dk_42 (dk_at dksX5_back_0 21 rfl rfl)
theorem dX5_back_22 : decode cX5_back 22 = .ok (.getfield 19, 3) := dk_180 0 19 (dk_at dksX5_back_1 0 rfl rfl)
theorem dX5_back_25 : decode cX5_back 25 = .ok (.iload_n 1, 1) := dk_27 (dk_at dksX5_back_1 3 rfl rfl)
theorem dX5_back_26 : decode cX5_back 26 = .ok (.baload, 1) := dk_51 (dk_at dksX5_back_1 4 rfl rfl)
theorem dX5_back_27 : decode cX5_back 27 = .ok (.ifCond .ne 10, 3) := dk_154 0 10 (dk_at dksX5_back_1 5 rfl rfl)
theorem dX5_back_30 : decode cX5_back 30 = .ok (.aload_n 0, 1) := dk_42 (dk_at dksX5_back_1 8 rfl rfl)
theorem dX5_back_31 : decode cX5_back 31 = .ok (.bipush (-2), 2) := dk_16 254 (dk_at dksX5_back_1 9 rfl rfl)
theorem dX5_back_33 : decode cX5_back 33 = .ok (.invokevirtual 155, 3) := dk_182 0 155 (dk_at dksX5_back_1 11 rfl rfl)
theorem dX5_back_36 : decode cX5_back 36 = .ok (.ireturn, 1) := dk_172 (dk_at dksX5_back_1 14 rfl rfl)
theorem dX5_back_37 : decode cX5_back 37 = .ok (.iconst 0, 1) := dk_3 (dk_at dksX5_back_1 15 rfl rfl)
theorem dX5_back_38 : decode cX5_back 38 = .ok (.istore_n 2, 1) := dk_61 (dk_at dksX5_back_1 16 rfl rfl)
theorem dX5_back_39 : decode cX5_back 39 = .ok (.iload_n 2, 1) := dk_28 (dk_at dksX5_back_1 17 rfl rfl)
theorem dX5_back_40 : decode cX5_back 40 = .ok (.sipush 5550, 3) := dk_17 21 174 (dk_at dksX5_back_1 18 rfl rfl)
theorem dX5_back_43 : decode cX5_back 43 = .ok (.if_icmp .ge 27, 3) := dk_162 0 27 (dk_at dksX5_back_1 21 rfl rfl)
theorem dX5_back_46 : decode cX5_back 46 = .ok (.aload_n 0, 1) := dk_42 (dk_at dksX5_back_2 0 rfl rfl)
theorem dX5_back_47 : decode cX5_back 47 = .ok (.getfield 13, 3) := dk_180 0 13 (dk_at dksX5_back_2 1 rfl rfl)
theorem dX5_back_50 : decode cX5_back 50 = .ok (.iload_n 2, 1) := dk_28 (dk_at dksX5_back_2 4 rfl rfl)
theorem dX5_back_51 : decode cX5_back 51 = .ok (.aload_n 0, 1) := dk_42 (dk_at dksX5_back_2 5 rfl rfl)
theorem dX5_back_52 : decode cX5_back 52 = .ok (.getfield 16, 3) := dk_180 0 16 (dk_at dksX5_back_2 6 rfl rfl)
theorem dX5_back_55 : decode cX5_back 55 = .ok (.sipush 5550, 3) := dk_17 21 174 (dk_at dksX5_back_2 9 rfl rfl)
theorem dX5_back_58 : decode cX5_back 58 = .ok (.iload_n 1, 1) := dk_27 (dk_at dksX5_back_2 12 rfl rfl)
theorem dX5_back_59 : decode cX5_back 59 = .ok (.imul, 1) := dk_104 (dk_at dksX5_back_2 13 rfl rfl)
theorem dX5_back_60 : decode cX5_back 60 = .ok (.iload_n 2, 1) := dk_28 (dk_at dksX5_back_2 14 rfl rfl)
theorem dX5_back_61 : decode cX5_back 61 = .ok (.iadd, 1) := dk_96 (dk_at dksX5_back_2 15 rfl rfl)
theorem dX5_back_62 : decode cX5_back 62 = .ok (.iaload, 1) := dk_46 (dk_at dksX5_back_2 16 rfl rfl)
theorem dX5_back_63 : decode cX5_back 63 = .ok (.iastore, 1) := dk_79 (dk_at dksX5_back_2 17 rfl rfl)
theorem dX5_back_64 : decode cX5_back 64 = .ok (.iinc 2 1, 3) := dk_132 2 1 (dk_at dksX5_back_2 18 rfl rfl)
theorem dX5_back_67 : decode cX5_back 67 = .ok (.goto (-28), 3) := dk_167 255 228 (dk_at dksX5_back_2 21 rfl rfl)
theorem dX5_back_70 : decode cX5_back 70 = .ok (.aload_n 0, 1) := dk_42 (dk_at dksX5_back_3 0 rfl rfl)
theorem dX5_back_71 : decode cX5_back 71 = .ok (.iconst 0, 1) := dk_3 (dk_at dksX5_back_3 1 rfl rfl)
theorem dX5_back_72 : decode cX5_back 72 = .ok (.putfield 148, 3) := dk_181 0 148 (dk_at dksX5_back_3 2 rfl rfl)
theorem dX5_back_75 : decode cX5_back 75 = .ok (.aload_n 0, 1) := dk_42 (dk_at dksX5_back_3 5 rfl rfl)
theorem dX5_back_76 : decode cX5_back 76 = .ok (.iconst 0, 1) := dk_3 (dk_at dksX5_back_3 6 rfl rfl)
theorem dX5_back_77 : decode cX5_back 77 = .ok (.invokevirtual 155, 3) := dk_182 0 155 (dk_at dksX5_back_3 7 rfl rfl)
theorem dX5_back_80 : decode cX5_back 80 = .ok (.ireturn, 1) := dk_172 (dk_at dksX5_back_3 10 rfl rfl)
abbrev cX5_fort : ByteArray := prog_22_method_21_code
def yX5_fort : MethodName := ⟨RX5, "fort", "(II)I"⟩
def dkwX5_fort_0 : List UInt8 := [42, 3, 181, 0, 142, 42, 42, 27, 28, 182, 0, 191, 182, 0, 155, 172]
abbrev dktX5_fort_0 : List UInt8 := dkwX5_fort_0 ++ []
theorem dksX5_fort_0 : cX5_fort.data.toList.drop 0 = dktX5_fort_0 := by decide +kernel
theorem dX5_fort_0 : decode cX5_fort 0 = .ok (.aload_n 0, 1) := dk_42 (dk_at dksX5_fort_0 0 rfl rfl)
theorem dX5_fort_1 : decode cX5_fort 1 = .ok (.iconst 0, 1) := dk_3 (dk_at dksX5_fort_0 1 rfl rfl)
theorem dX5_fort_2 : decode cX5_fort 2 = .ok (.putfield 142, 3) := dk_181 0 142 (dk_at dksX5_fort_0 2 rfl rfl)
theorem dX5_fort_5 : decode cX5_fort 5 = .ok (.aload_n 0, 1) := dk_42 (dk_at dksX5_fort_0 5 rfl rfl)
theorem dX5_fort_6 : decode cX5_fort 6 = .ok (.aload_n 0, 1) := dk_42 (dk_at dksX5_fort_0 6 rfl rfl)
theorem dX5_fort_7 : decode cX5_fort 7 = .ok (.iload_n 1, 1) := dk_27 (dk_at dksX5_fort_0 7 rfl rfl)
theorem dX5_fort_8 : decode cX5_fort 8 = .ok (.iload_n 2, 1) := dk_28 (dk_at dksX5_fort_0 8 rfl rfl)
theorem dX5_fort_9 : decode cX5_fort 9 = .ok (.invokevirtual 191, 3) := dk_182 0 191 (dk_at dksX5_fort_0 9 rfl rfl)
theorem dX5_fort_12 : decode cX5_fort 12 = .ok (.invokevirtual 155, 3) := dk_182 0 155 (dk_at dksX5_fort_0 12 rfl rfl)
theorem dX5_fort_15 : decode cX5_fort 15 = .ok (.ireturn, 1) := dk_172 (dk_at dksX5_fort_0 15 rfl rfl)
abbrev cX5_come : ByteArray := prog_22_method_20_code
def yX5_come : MethodName := ⟨RX5, "come", "(II)I"⟩
def dkwX5_come_4 : List UInt8 := [181, 0, 148, 29, 172]
abbrev dktX5_come_4 : List UInt8 := dkwX5_come_4 ++ []
def dkwX5_come_3 : List UInt8 := [42, 180, 0, 13, 16, 25, 29, 96, 3, 79, 42, 180, 0, 13, 3, 92, 46, 4, 96, 79, 42, 3]
abbrev dktX5_come_3 : List UInt8 := dkwX5_come_3 ++ dktX5_come_4
def dkwX5_come_2 : List UInt8 := [29, 96, 27, 79, 42, 180, 0, 13, 16, 31, 29, 96, 28, 79, 42, 180, 0, 13, 16, 19, 29, 96, 3, 79]
abbrev dktX5_come_2 : List UInt8 := dkwX5_come_2 ++ dktX5_come_3
def dkwX5_come_1 : List UInt8 := [2, 172, 42, 180, 0, 13, 3, 46, 62, 29, 16, 6, 160, 0, 6, 16, 251, 172, 42, 180, 0, 13, 16, 13]
abbrev dktX5_come_1 : List UInt8 := dkwX5_come_1 ++ dktX5_come_2
def dkwX5_come_0 : List UInt8 := [27, 133, 9, 20, 0, 187, 184, 0, 162, 153, 0, 15, 28, 133, 9, 20, 0, 189, 184, 0, 162, 154, 0, 5]
abbrev dktX5_come_0 : List UInt8 := dkwX5_come_0 ++ dktX5_come_1
theorem dksX5_come_0 : cX5_come.data.toList.drop 0 = dktX5_come_0 := by decide +kernel
theorem dksX5_come_1 : cX5_come.data.toList.drop 24 = dktX5_come_1 := dk_seg dksX5_come_0 24 rfl rfl
theorem dksX5_come_2 : cX5_come.data.toList.drop 48 = dktX5_come_2 := dk_seg dksX5_come_1 24 rfl rfl
theorem dksX5_come_3 : cX5_come.data.toList.drop 72 = dktX5_come_3 := dk_seg dksX5_come_2 24 rfl rfl
theorem dksX5_come_4 : cX5_come.data.toList.drop 94 = dktX5_come_4 := dk_seg dksX5_come_3 22 rfl rfl
theorem dX5_come_0 : decode cX5_come 0 = .ok (.iload_n 1, 1) := dk_27 (dk_at dksX5_come_0 0 rfl rfl)
theorem dX5_come_1 : decode cX5_come 1 = .ok (.i2l, 1) := dk_133 (dk_at dksX5_come_0 1 rfl rfl)
theorem dX5_come_2 : decode cX5_come 2 = .ok (.lconst 0, 1) := dk_9 (dk_at dksX5_come_0 2 rfl rfl)
theorem dX5_come_3 : decode cX5_come 3 = .ok (.ldc2_w 187, 3) := dk_20 0 187 (dk_at dksX5_come_0 3 rfl rfl)
theorem dX5_come_6 : decode cX5_come 6 = .ok (.invokestatic 162, 3) := dk_184 0 162 (dk_at dksX5_come_0 6 rfl rfl)
theorem dX5_come_9 : decode cX5_come 9 = .ok (.ifCond .eq 15, 3) := dk_153 0 15 (dk_at dksX5_come_0 9 rfl rfl)
theorem dX5_come_12 : decode cX5_come 12 = .ok (.iload_n 2, 1) := dk_28 (dk_at dksX5_come_0 12 rfl rfl)
theorem dX5_come_13 : decode cX5_come 13 = .ok (.i2l, 1) := dk_133 (dk_at dksX5_come_0 13 rfl rfl)
theorem dX5_come_14 : decode cX5_come 14 = .ok (.lconst 0, 1) := dk_9 (dk_at dksX5_come_0 14 rfl rfl)
theorem dX5_come_15 : decode cX5_come 15 = .ok (.ldc2_w 189, 3) := dk_20 0 189 (dk_at dksX5_come_0 15 rfl rfl)
theorem dX5_come_18 : decode cX5_come 18 = .ok (.invokestatic 162, 3) := dk_184 0 162 (dk_at dksX5_come_0 18 rfl rfl)
theorem dX5_come_21 : decode cX5_come 21 = .ok (.ifCond .ne 5, 3) := dk_154 0 5 (dk_at dksX5_come_0 21 rfl rfl)
theorem dX5_come_24 : decode cX5_come 24 = .ok (.iconst (-1), 1) := dk_2 (dk_at dksX5_come_1 0 rfl rfl)
theorem dX5_come_25 : decode cX5_come 25 = .ok (.ireturn, 1) := dk_172 (dk_at dksX5_come_1 1 rfl rfl)
theorem dX5_come_26 : decode cX5_come 26 = .ok (.aload_n 0, 1) := dk_42 (dk_at dksX5_come_1 2 rfl rfl)
theorem dX5_come_27 : decode cX5_come 27 = .ok (.getfield 13, 3) := dk_180 0 13 (dk_at dksX5_come_1 3 rfl rfl)
theorem dX5_come_30 : decode cX5_come 30 = .ok (.iconst 0, 1) := dk_3 (dk_at dksX5_come_1 6 rfl rfl)
theorem dX5_come_31 : decode cX5_come 31 = .ok (.iaload, 1) := dk_46 (dk_at dksX5_come_1 7 rfl rfl)
theorem dX5_come_32 : decode cX5_come 32 = .ok (.istore_n 3, 1) := dk_62 (dk_at dksX5_come_1 8 rfl rfl)
theorem dX5_come_33 : decode cX5_come 33 = .ok (.iload_n 3, 1) := dk_29 (dk_at dksX5_come_1 9 rfl rfl)
theorem dX5_come_34 : decode cX5_come 34 = .ok (.bipush 6, 2) := dk_16 6 (dk_at dksX5_come_1 10 rfl rfl)
theorem dX5_come_36 : decode cX5_come 36 = .ok (.if_icmp .ne 6, 3) := dk_160 0 6 (dk_at dksX5_come_1 12 rfl rfl)
theorem dX5_come_39 : decode cX5_come 39 = .ok (.bipush (-5), 2) := dk_16 251 (dk_at dksX5_come_1 15 rfl rfl)
theorem dX5_come_41 : decode cX5_come 41 = .ok (.ireturn, 1) := dk_172 (dk_at dksX5_come_1 17 rfl rfl)
theorem dX5_come_42 : decode cX5_come 42 = .ok (.aload_n 0, 1) := dk_42 (dk_at dksX5_come_1 18 rfl rfl)
theorem dX5_come_43 : decode cX5_come 43 = .ok (.getfield 13, 3) := dk_180 0 13 (dk_at dksX5_come_1 19 rfl rfl)
theorem dX5_come_46 : decode cX5_come 46 = .ok (.bipush 13, 2) := dk_16 13 (dk_at dksX5_come_1 22 rfl rfl)
theorem dX5_come_48 : decode cX5_come 48 = .ok (.iload_n 3, 1) := dk_29 (dk_at dksX5_come_2 0 rfl rfl)
theorem dX5_come_49 : decode cX5_come 49 = .ok (.iadd, 1) := dk_96 (dk_at dksX5_come_2 1 rfl rfl)
theorem dX5_come_50 : decode cX5_come 50 = .ok (.iload_n 1, 1) := dk_27 (dk_at dksX5_come_2 2 rfl rfl)
theorem dX5_come_51 : decode cX5_come 51 = .ok (.iastore, 1) := dk_79 (dk_at dksX5_come_2 3 rfl rfl)
theorem dX5_come_52 : decode cX5_come 52 = .ok (.aload_n 0, 1) := dk_42 (dk_at dksX5_come_2 4 rfl rfl)
theorem dX5_come_53 : decode cX5_come 53 = .ok (.getfield 13, 3) := dk_180 0 13 (dk_at dksX5_come_2 5 rfl rfl)
theorem dX5_come_56 : decode cX5_come 56 = .ok (.bipush 31, 2) := dk_16 31 (dk_at dksX5_come_2 8 rfl rfl)
theorem dX5_come_58 : decode cX5_come 58 = .ok (.iload_n 3, 1) := dk_29 (dk_at dksX5_come_2 10 rfl rfl)
theorem dX5_come_59 : decode cX5_come 59 = .ok (.iadd, 1) := dk_96 (dk_at dksX5_come_2 11 rfl rfl)
theorem dX5_come_60 : decode cX5_come 60 = .ok (.iload_n 2, 1) := dk_28 (dk_at dksX5_come_2 12 rfl rfl)
theorem dX5_come_61 : decode cX5_come 61 = .ok (.iastore, 1) := dk_79 (dk_at dksX5_come_2 13 rfl rfl)
theorem dX5_come_62 : decode cX5_come 62 = .ok (.aload_n 0, 1) := dk_42 (dk_at dksX5_come_2 14 rfl rfl)
theorem dX5_come_63 : decode cX5_come 63 = .ok (.getfield 13, 3) := dk_180 0 13 (dk_at dksX5_come_2 15 rfl rfl)
theorem dX5_come_66 : decode cX5_come 66 = .ok (.bipush 19, 2) := dk_16 19 (dk_at dksX5_come_2 18 rfl rfl)
theorem dX5_come_68 : decode cX5_come 68 = .ok (.iload_n 3, 1) := dk_29 (dk_at dksX5_come_2 20 rfl rfl)
theorem dX5_come_69 : decode cX5_come 69 = .ok (.iadd, 1) := dk_96 (dk_at dksX5_come_2 21 rfl rfl)
theorem dX5_come_70 : decode cX5_come 70 = .ok (.iconst 0, 1) := dk_3 (dk_at dksX5_come_2 22 rfl rfl)
theorem dX5_come_71 : decode cX5_come 71 = .ok (.iastore, 1) := dk_79 (dk_at dksX5_come_2 23 rfl rfl)
theorem dX5_come_72 : decode cX5_come 72 = .ok (.aload_n 0, 1) := dk_42 (dk_at dksX5_come_3 0 rfl rfl)
theorem dX5_come_73 : decode cX5_come 73 = .ok (.getfield 13, 3) := dk_180 0 13 (dk_at dksX5_come_3 1 rfl rfl)
theorem dX5_come_76 : decode cX5_come 76 = .ok (.bipush 25, 2) := dk_16 25 (dk_at dksX5_come_3 4 rfl rfl)
theorem dX5_come_78 : decode cX5_come 78 = .ok (.iload_n 3, 1) := dk_29 (dk_at dksX5_come_3 6 rfl rfl)
theorem dX5_come_79 : decode cX5_come 79 = .ok (.iadd, 1) := dk_96 (dk_at dksX5_come_3 7 rfl rfl)
theorem dX5_come_80 : decode cX5_come 80 = .ok (.iconst 0, 1) := dk_3 (dk_at dksX5_come_3 8 rfl rfl)
theorem dX5_come_81 : decode cX5_come 81 = .ok (.iastore, 1) := dk_79 (dk_at dksX5_come_3 9 rfl rfl)
theorem dX5_come_82 : decode cX5_come 82 = .ok (.aload_n 0, 1) := dk_42 (dk_at dksX5_come_3 10 rfl rfl)
theorem dX5_come_83 : decode cX5_come 83 = .ok (.getfield 13, 3) := dk_180 0 13 (dk_at dksX5_come_3 11 rfl rfl)
theorem dX5_come_86 : decode cX5_come 86 = .ok (.iconst 0, 1) := dk_3 (dk_at dksX5_come_3 14 rfl rfl)
theorem dX5_come_87 : decode cX5_come 87 = .ok (.dup2, 1) := dk_92 (dk_at dksX5_come_3 15 rfl rfl)
theorem dX5_come_88 : decode cX5_come 88 = .ok (.iaload, 1) := dk_46 (dk_at dksX5_come_3 16 rfl rfl)
theorem dX5_come_89 : decode cX5_come 89 = .ok (.iconst 1, 1) := dk_4 (dk_at dksX5_come_3 17 rfl rfl)
theorem dX5_come_90 : decode cX5_come 90 = .ok (.iadd, 1) := dk_96 (dk_at dksX5_come_3 18 rfl rfl)
theorem dX5_come_91 : decode cX5_come 91 = .ok (.iastore, 1) := dk_79 (dk_at dksX5_come_3 19 rfl rfl)
theorem dX5_come_92 : decode cX5_come 92 = .ok (.aload_n 0, 1) := dk_42 (dk_at dksX5_come_3 20 rfl rfl)
theorem dX5_come_93 : decode cX5_come 93 = .ok (.iconst 0, 1) := dk_3 (dk_at dksX5_come_3 21 rfl rfl)
theorem dX5_come_94 : decode cX5_come 94 = .ok (.putfield 148, 3) := dk_181 0 148 (dk_at dksX5_come_4 0 rfl rfl)
theorem dX5_come_97 : decode cX5_come 97 = .ok (.iload_n 3, 1) := dk_29 (dk_at dksX5_come_4 3 rfl rfl)
theorem dX5_come_98 : decode cX5_come 98 = .ok (.ireturn, 1) := dk_172 (dk_at dksX5_come_4 4 rfl rfl)
abbrev cX5_of : ByteArray := prog_22_method_22_code
def yX5_of : MethodName := ⟨RX5, "of", "(II)I"⟩
def dkwX5_of_4 : List UInt8 := [27, 96, 46, 182, 0, 181, 136, 172, 2, 172]
abbrev dktX5_of_4 : List UInt8 := dkwX5_of_4 ++ []
def dkwX5_of_3 : List UInt8 := [16, 19, 27, 96, 46, 172, 42, 180, 0, 13, 16, 25, 27, 96, 46, 172, 42, 27, 42, 180, 0, 13, 16, 19]
abbrev dktX5_of_3 : List UInt8 := dkwX5_of_3 ++ dktX5_of_4
def dkwX5_of_2 : List UInt8 := [42, 180, 0, 13, 16, 13, 27, 96, 46, 172, 42, 180, 0, 13, 16, 31, 27, 96, 46, 172, 42, 180, 0, 13]
abbrev dktX5_of_2 : List UInt8 := dkwX5_of_2 ++ dktX5_of_3
def dkwX5_of_1 : List UInt8 := [170, 0, 0, 0, 0, 0, 0, 92, 0, 0, 0, 0, 0, 0, 0, 4, 0, 0, 0, 36, 0, 0, 0, 46, 0, 0, 0, 56, 0, 0, 0, 66, 0, 0, 0, 76]
abbrev dktX5_of_1 : List UInt8 := dkwX5_of_1 ++ dktX5_of_2
def dkwX5_of_0 : List UInt8 := [42, 3, 181, 0, 142, 42, 27, 182, 0, 195, 154, 0, 5, 2, 172, 28]
abbrev dktX5_of_0 : List UInt8 := dkwX5_of_0 ++ dktX5_of_1
theorem dksX5_of_0 : cX5_of.data.toList.drop 0 = dktX5_of_0 := by decide +kernel
theorem dksX5_of_1 : cX5_of.data.toList.drop 16 = dktX5_of_1 := dk_seg dksX5_of_0 16 rfl rfl
theorem dksX5_of_2 : cX5_of.data.toList.drop 52 = dktX5_of_2 := dk_seg dksX5_of_1 36 rfl rfl
theorem dksX5_of_3 : cX5_of.data.toList.drop 76 = dktX5_of_3 := dk_seg dksX5_of_2 24 rfl rfl
theorem dksX5_of_4 : cX5_of.data.toList.drop 100 = dktX5_of_4 := dk_seg dksX5_of_3 24 rfl rfl
theorem dX5_of_0 : decode cX5_of 0 = .ok (.aload_n 0, 1) := dk_42 (dk_at dksX5_of_0 0 rfl rfl)
theorem dX5_of_1 : decode cX5_of 1 = .ok (.iconst 0, 1) := dk_3 (dk_at dksX5_of_0 1 rfl rfl)
theorem dX5_of_2 : decode cX5_of 2 = .ok (.putfield 142, 3) := dk_181 0 142 (dk_at dksX5_of_0 2 rfl rfl)
theorem dX5_of_5 : decode cX5_of 5 = .ok (.aload_n 0, 1) := dk_42 (dk_at dksX5_of_0 5 rfl rfl)
theorem dX5_of_6 : decode cX5_of 6 = .ok (.iload_n 1, 1) := dk_27 (dk_at dksX5_of_0 6 rfl rfl)
theorem dX5_of_7 : decode cX5_of 7 = .ok (.invokevirtual 195, 3) := dk_182 0 195 (dk_at dksX5_of_0 7 rfl rfl)
theorem dX5_of_10 : decode cX5_of 10 = .ok (.ifCond .ne 5, 3) := dk_154 0 5 (dk_at dksX5_of_0 10 rfl rfl)
theorem dX5_of_13 : decode cX5_of 13 = .ok (.iconst (-1), 1) := dk_2 (dk_at dksX5_of_0 13 rfl rfl)
theorem dX5_of_14 : decode cX5_of 14 = .ok (.ireturn, 1) := dk_172 (dk_at dksX5_of_0 14 rfl rfl)
theorem dX5_of_15 : decode cX5_of 15 = .ok (.iload_n 2, 1) := dk_28 (dk_at dksX5_of_0 15 rfl rfl)
theorem dX5_of_16 : decode cX5_of 16 = .ok (.tableswitch 92 0 4 #[36, 46, 56, 66, 76], 36) := by decide +kernel
theorem dX5_of_52 : decode cX5_of 52 = .ok (.aload_n 0, 1) := dk_42 (dk_at dksX5_of_2 0 rfl rfl)
theorem dX5_of_53 : decode cX5_of 53 = .ok (.getfield 13, 3) := dk_180 0 13 (dk_at dksX5_of_2 1 rfl rfl)
theorem dX5_of_56 : decode cX5_of 56 = .ok (.bipush 13, 2) := dk_16 13 (dk_at dksX5_of_2 4 rfl rfl)
theorem dX5_of_58 : decode cX5_of 58 = .ok (.iload_n 1, 1) := dk_27 (dk_at dksX5_of_2 6 rfl rfl)
theorem dX5_of_59 : decode cX5_of 59 = .ok (.iadd, 1) := dk_96 (dk_at dksX5_of_2 7 rfl rfl)
theorem dX5_of_60 : decode cX5_of 60 = .ok (.iaload, 1) := dk_46 (dk_at dksX5_of_2 8 rfl rfl)
theorem dX5_of_61 : decode cX5_of 61 = .ok (.ireturn, 1) := dk_172 (dk_at dksX5_of_2 9 rfl rfl)
theorem dX5_of_62 : decode cX5_of 62 = .ok (.aload_n 0, 1) := dk_42 (dk_at dksX5_of_2 10 rfl rfl)
theorem dX5_of_63 : decode cX5_of 63 = .ok (.getfield 13, 3) := dk_180 0 13 (dk_at dksX5_of_2 11 rfl rfl)
theorem dX5_of_66 : decode cX5_of 66 = .ok (.bipush 31, 2) := dk_16 31 (dk_at dksX5_of_2 14 rfl rfl)
theorem dX5_of_68 : decode cX5_of 68 = .ok (.iload_n 1, 1) := dk_27 (dk_at dksX5_of_2 16 rfl rfl)
theorem dX5_of_69 : decode cX5_of 69 = .ok (.iadd, 1) := dk_96 (dk_at dksX5_of_2 17 rfl rfl)
theorem dX5_of_70 : decode cX5_of 70 = .ok (.iaload, 1) := dk_46 (dk_at dksX5_of_2 18 rfl rfl)
theorem dX5_of_71 : decode cX5_of 71 = .ok (.ireturn, 1) := dk_172 (dk_at dksX5_of_2 19 rfl rfl)
theorem dX5_of_72 : decode cX5_of 72 = .ok (.aload_n 0, 1) := dk_42 (dk_at dksX5_of_2 20 rfl rfl)
theorem dX5_of_73 : decode cX5_of 73 = .ok (.getfield 13, 3) := dk_180 0 13 (dk_at dksX5_of_2 21 rfl rfl)
theorem dX5_of_76 : decode cX5_of 76 = .ok (.bipush 19, 2) := dk_16 19 (dk_at dksX5_of_3 0 rfl rfl)
theorem dX5_of_78 : decode cX5_of 78 = .ok (.iload_n 1, 1) := dk_27 (dk_at dksX5_of_3 2 rfl rfl)
theorem dX5_of_79 : decode cX5_of 79 = .ok (.iadd, 1) := dk_96 (dk_at dksX5_of_3 3 rfl rfl)
theorem dX5_of_80 : decode cX5_of 80 = .ok (.iaload, 1) := dk_46 (dk_at dksX5_of_3 4 rfl rfl)
theorem dX5_of_81 : decode cX5_of 81 = .ok (.ireturn, 1) := dk_172 (dk_at dksX5_of_3 5 rfl rfl)
theorem dX5_of_82 : decode cX5_of 82 = .ok (.aload_n 0, 1) := dk_42 (dk_at dksX5_of_3 6 rfl rfl)
theorem dX5_of_83 : decode cX5_of 83 = .ok (.getfield 13, 3) := dk_180 0 13 (dk_at dksX5_of_3 7 rfl rfl)
theorem dX5_of_86 : decode cX5_of 86 = .ok (.bipush 25, 2) := dk_16 25 (dk_at dksX5_of_3 10 rfl rfl)
theorem dX5_of_88 : decode cX5_of 88 = .ok (.iload_n 1, 1) := dk_27 (dk_at dksX5_of_3 12 rfl rfl)
theorem dX5_of_89 : decode cX5_of 89 = .ok (.iadd, 1) := dk_96 (dk_at dksX5_of_3 13 rfl rfl)
theorem dX5_of_90 : decode cX5_of 90 = .ok (.iaload, 1) := dk_46 (dk_at dksX5_of_3 14 rfl rfl)
theorem dX5_of_91 : decode cX5_of 91 = .ok (.ireturn, 1) := dk_172 (dk_at dksX5_of_3 15 rfl rfl)
theorem dX5_of_92 : decode cX5_of 92 = .ok (.aload_n 0, 1) := dk_42 (dk_at dksX5_of_3 16 rfl rfl)
theorem dX5_of_93 : decode cX5_of 93 = .ok (.iload_n 1, 1) := dk_27 (dk_at dksX5_of_3 17 rfl rfl)
theorem dX5_of_94 : decode cX5_of 94 = .ok (.aload_n 0, 1) := dk_42 (dk_at dksX5_of_3 18 rfl rfl)
theorem dX5_of_95 : decode cX5_of 95 = .ok (.getfield 13, 3) := dk_180 0 13 (dk_at dksX5_of_3 19 rfl rfl)
theorem dX5_of_98 : decode cX5_of 98 = .ok (.bipush 19, 2) := dk_16 19 (dk_at dksX5_of_3 22 rfl rfl)
theorem dX5_of_100 : decode cX5_of 100 = .ok (.iload_n 1, 1) := dk_27 (dk_at dksX5_of_4 0 rfl rfl)
theorem dX5_of_101 : decode cX5_of 101 = .ok (.iadd, 1) := dk_96 (dk_at dksX5_of_4 1 rfl rfl)
theorem dX5_of_102 : decode cX5_of 102 = .ok (.iaload, 1) := dk_46 (dk_at dksX5_of_4 2 rfl rfl)
theorem dX5_of_103 : decode cX5_of 103 = .ok (.invokevirtual 181, 3) := dk_182 0 181 (dk_at dksX5_of_4 3 rfl rfl)
theorem dX5_of_106 : decode cX5_of 106 = .ok (.l2i, 1) := dk_136 (dk_at dksX5_of_4 6 rfl rfl)
theorem dX5_of_107 : decode cX5_of 107 = .ok (.ireturn, 1) := dk_172 (dk_at dksX5_of_4 7 rfl rfl)
theorem dX5_of_108 : decode cX5_of 108 = .ok (.iconst (-1), 1) := dk_2 (dk_at dksX5_of_4 8 rfl rfl)
theorem dX5_of_109 : decode cX5_of 109 = .ok (.ireturn, 1) := dk_172 (dk_at dksX5_of_4 9 rfl rfl)
abbrev cX5_isFort : ByteArray := prog_22_method_15_code
def yX5_isFort : MethodName := ⟨RX5, "isFort", "(I)Z"⟩
def dkwX5_isFort_0 : List UInt8 := [27, 133, 9, 42, 180, 0, 13, 3, 46, 133, 10, 101, 184, 0, 162, 172]
abbrev dktX5_isFort_0 : List UInt8 := dkwX5_isFort_0 ++ []
theorem dksX5_isFort_0 : cX5_isFort.data.toList.drop 0 = dktX5_isFort_0 := by decide +kernel
theorem dX5_isFort_0 : decode cX5_isFort 0 = .ok (.iload_n 1, 1) := dk_27 (dk_at dksX5_isFort_0 0 rfl rfl)
theorem dX5_isFort_1 : decode cX5_isFort 1 = .ok (.i2l, 1) := dk_133 (dk_at dksX5_isFort_0 1 rfl rfl)
theorem dX5_isFort_2 : decode cX5_isFort 2 = .ok (.lconst 0, 1) := dk_9 (dk_at dksX5_isFort_0 2 rfl rfl)
theorem dX5_isFort_3 : decode cX5_isFort 3 = .ok (.aload_n 0, 1) := dk_42 (dk_at dksX5_isFort_0 3 rfl rfl)
theorem dX5_isFort_4 : decode cX5_isFort 4 = .ok (.getfield 13, 3) := dk_180 0 13 (dk_at dksX5_isFort_0 4 rfl rfl)
theorem dX5_isFort_7 : decode cX5_isFort 7 = .ok (.iconst 0, 1) := dk_3 (dk_at dksX5_isFort_0 7 rfl rfl)
theorem dX5_isFort_8 : decode cX5_isFort 8 = .ok (.iaload, 1) := dk_46 (dk_at dksX5_isFort_0 8 rfl rfl)
theorem dX5_isFort_9 : decode cX5_isFort 9 = .ok (.i2l, 1) := dk_133 (dk_at dksX5_isFort_0 9 rfl rfl)
theorem dX5_isFort_10 : decode cX5_isFort 10 = .ok (.lconst 1, 1) := dk_10 (dk_at dksX5_isFort_0 10 rfl rfl)
theorem dX5_isFort_11 : decode cX5_isFort 11 = .ok (.lsub, 1) := dk_101 (dk_at dksX5_isFort_0 11 rfl rfl)
theorem dX5_isFort_12 : decode cX5_isFort 12 = .ok (.invokestatic 162, 3) := dk_184 0 162 (dk_at dksX5_isFort_0 12 rfl rfl)
theorem dX5_isFort_15 : decode cX5_isFort 15 = .ok (.ireturn, 1) := dk_172 (dk_at dksX5_isFort_0 15 rfl rfl)
abbrev cX5_beliefBy : ByteArray := prog_22_method_18_code
def yX5_beliefBy : MethodName := ⟨RX5, "beliefBy", "(II)J"⟩
def dkwX5_beliefBy_7 : List UInt8 := [22, 7, 105, 97, 20, 0, 179, 109, 173]
abbrev dktX5_beliefBy_7 : List UInt8 := dkwX5_beliefBy_7 ++ []
def dkwX5_beliefBy_6 : List UInt8 := [22, 5, 97, 109, 55, 9, 42, 27, 182, 0, 176, 133, 22, 9, 105, 16, 100, 42, 27, 182, 0, 176, 100, 133]
abbrev dktX5_beliefBy_6 : List UInt8 := dkwX5_beliefBy_6 ++ dktX5_beliefBy_7
def dkwX5_beliefBy_5 : List UInt8 := [167, 255, 164, 33, 22, 5, 97, 9, 148, 154, 0, 8, 22, 7, 167, 0, 13, 33, 20, 0, 174, 105, 33]
abbrev dktX5_beliefBy_5 : List UInt8 := dkwX5_beliefBy_5 ++ dktX5_beliefBy_6
def dkwX5_beliefBy_4 : List UInt8 := [167, 0, 17, 16, 10, 42, 180, 0, 13, 16, 43, 21, 9, 96, 46, 100, 133, 105, 55, 5, 132, 9, 1]
abbrev dktX5_beliefBy_4 : List UInt8 := dkwX5_beliefBy_4 ++ dktX5_beliefBy_5
def dkwX5_beliefBy_3 : List UInt8 := [105, 66, 22, 5, 28, 21, 9, 184, 0, 170, 153, 0, 17, 42, 180, 0, 13, 16, 43, 21, 9, 96, 46, 133]
abbrev dktX5_beliefBy_3 : List UInt8 := dkwX5_beliefBy_3 ++ dktX5_beliefBy_4
def dkwX5_beliefBy_2 : List UInt8 := [16, 37, 21, 9, 96, 46, 133, 167, 0, 17, 16, 10, 42, 180, 0, 13, 16, 37, 21, 9, 96, 46, 100, 133]
abbrev dktX5_beliefBy_2 : List UInt8 := dkwX5_beliefBy_2 ++ dktX5_beliefBy_3
def dkwX5_beliefBy_1 : List UInt8 := [54, 9, 21, 9, 16, 6, 162, 0, 91, 33, 28, 21, 9, 184, 0, 170, 153, 0, 17, 42, 180, 0, 13]
abbrev dktX5_beliefBy_1 : List UInt8 := dkwX5_beliefBy_1 ++ dktX5_beliefBy_2
def dkwX5_beliefBy_0 : List UInt8 := [42, 180, 0, 13, 16, 7, 46, 133, 66, 20, 0, 168, 33, 101, 55, 5, 33, 20, 0, 168, 105, 55, 7, 3]
abbrev dktX5_beliefBy_0 : List UInt8 := dkwX5_beliefBy_0 ++ dktX5_beliefBy_1
theorem dksX5_beliefBy_0 : cX5_beliefBy.data.toList.drop 0 = dktX5_beliefBy_0 := by decide +kernel
theorem dksX5_beliefBy_1 : cX5_beliefBy.data.toList.drop 24 = dktX5_beliefBy_1 := dk_seg dksX5_beliefBy_0 24 rfl rfl
theorem dksX5_beliefBy_2 : cX5_beliefBy.data.toList.drop 47 = dktX5_beliefBy_2 := dk_seg dksX5_beliefBy_1 23 rfl rfl
theorem dksX5_beliefBy_3 : cX5_beliefBy.data.toList.drop 71 = dktX5_beliefBy_3 := dk_seg dksX5_beliefBy_2 24 rfl rfl
theorem dksX5_beliefBy_4 : cX5_beliefBy.data.toList.drop 95 = dktX5_beliefBy_4 := dk_seg dksX5_beliefBy_3 24 rfl rfl
theorem dksX5_beliefBy_5 : cX5_beliefBy.data.toList.drop 118 = dktX5_beliefBy_5 := dk_seg dksX5_beliefBy_4 23 rfl rfl
theorem dksX5_beliefBy_6 : cX5_beliefBy.data.toList.drop 141 = dktX5_beliefBy_6 := dk_seg dksX5_beliefBy_5 23 rfl rfl
theorem dksX5_beliefBy_7 : cX5_beliefBy.data.toList.drop 165 = dktX5_beliefBy_7 := dk_seg dksX5_beliefBy_6 24 rfl rfl
theorem dX5_beliefBy_0 : decode cX5_beliefBy 0 = .ok (.aload_n 0, 1) := dk_42 (dk_at dksX5_beliefBy_0 0 rfl rfl)
theorem dX5_beliefBy_1 : decode cX5_beliefBy 1 = .ok (.getfield 13, 3) := dk_180 0 13 (dk_at dksX5_beliefBy_0 1 rfl rfl)
theorem dX5_beliefBy_4 : decode cX5_beliefBy 4 = .ok (.bipush 7, 2) := dk_16 7 (dk_at dksX5_beliefBy_0 4 rfl rfl)
theorem dX5_beliefBy_6 : decode cX5_beliefBy 6 = .ok (.iaload, 1) := dk_46 (dk_at dksX5_beliefBy_0 6 rfl rfl)
theorem dX5_beliefBy_7 : decode cX5_beliefBy 7 = .ok (.i2l, 1) := dk_133 (dk_at dksX5_beliefBy_0 7 rfl rfl)
theorem dX5_beliefBy_8 : decode cX5_beliefBy 8 = .ok (.lstore_n 3, 1) := dk_66 (dk_at dksX5_beliefBy_0 8 rfl rfl)
theorem dX5_beliefBy_9 : decode cX5_beliefBy 9 = .ok (.ldc2_w 168, 3) := dk_20 0 168 (dk_at dksX5_beliefBy_0 9 rfl rfl)
theorem dX5_beliefBy_12 : decode cX5_beliefBy 12 = .ok (.lload_n 3, 1) := dk_33 (dk_at dksX5_beliefBy_0 12 rfl rfl)
theorem dX5_beliefBy_13 : decode cX5_beliefBy 13 = .ok (.lsub, 1) := dk_101 (dk_at dksX5_beliefBy_0 13 rfl rfl)
theorem dX5_beliefBy_14 : decode cX5_beliefBy 14 = .ok (.lstore 5, 2) := dk_55 5 (dk_at dksX5_beliefBy_0 14 rfl rfl)
theorem dX5_beliefBy_16 : decode cX5_beliefBy 16 = .ok (.lload_n 3, 1) := dk_33 (dk_at dksX5_beliefBy_0 16 rfl rfl)
theorem dX5_beliefBy_17 : decode cX5_beliefBy 17 = .ok (.ldc2_w 168, 3) := dk_20 0 168 (dk_at dksX5_beliefBy_0 17 rfl rfl)
theorem dX5_beliefBy_20 : decode cX5_beliefBy 20 = .ok (.lmul, 1) := dk_105 (dk_at dksX5_beliefBy_0 20 rfl rfl)
theorem dX5_beliefBy_21 : decode cX5_beliefBy 21 = .ok (.lstore 7, 2) := dk_55 7 (dk_at dksX5_beliefBy_0 21 rfl rfl)
theorem dX5_beliefBy_23 : decode cX5_beliefBy 23 = .ok (.iconst 0, 1) := dk_3 (dk_at dksX5_beliefBy_0 23 rfl rfl)
theorem dX5_beliefBy_24 : decode cX5_beliefBy 24 = .ok (.istore 9, 2) := dk_54 9 (dk_at dksX5_beliefBy_1 0 rfl rfl)
theorem dX5_beliefBy_26 : decode cX5_beliefBy 26 = .ok (.iload 9, 2) := dk_21 9 (dk_at dksX5_beliefBy_1 2 rfl rfl)
theorem dX5_beliefBy_28 : decode cX5_beliefBy 28 = .ok (.bipush 6, 2) := dk_16 6 (dk_at dksX5_beliefBy_1 4 rfl rfl)
theorem dX5_beliefBy_30 : decode cX5_beliefBy 30 = .ok (.if_icmp .ge 91, 3) := dk_162 0 91 (dk_at dksX5_beliefBy_1 6 rfl rfl)
theorem dX5_beliefBy_33 : decode cX5_beliefBy 33 = .ok (.lload_n 3, 1) := dk_33 (dk_at dksX5_beliefBy_1 9 rfl rfl)
theorem dX5_beliefBy_34 : decode cX5_beliefBy 34 = .ok (.iload_n 2, 1) := dk_28 (dk_at dksX5_beliefBy_1 10 rfl rfl)
theorem dX5_beliefBy_35 : decode cX5_beliefBy 35 = .ok (.iload 9, 2) := dk_21 9 (dk_at dksX5_beliefBy_1 11 rfl rfl)
theorem dX5_beliefBy_37 : decode cX5_beliefBy 37 = .ok (.invokestatic 170, 3) := dk_184 0 170 (dk_at dksX5_beliefBy_1 13 rfl rfl)
theorem dX5_beliefBy_40 : decode cX5_beliefBy 40 = .ok (.ifCond .eq 17, 3) := dk_153 0 17 (dk_at dksX5_beliefBy_1 16 rfl rfl)
theorem dX5_beliefBy_43 : decode cX5_beliefBy 43 = .ok (.aload_n 0, 1) := dk_42 (dk_at dksX5_beliefBy_1 19 rfl rfl)
theorem dX5_beliefBy_44 : decode cX5_beliefBy 44 = .ok (.getfield 13, 3) := dk_180 0 13 (dk_at dksX5_beliefBy_1 20 rfl rfl)
theorem dX5_beliefBy_47 : decode cX5_beliefBy 47 = .ok (.bipush 37, 2) := dk_16 37 (dk_at dksX5_beliefBy_2 0 rfl rfl)
theorem dX5_beliefBy_49 : decode cX5_beliefBy 49 = .ok (.iload 9, 2) := dk_21 9 (dk_at dksX5_beliefBy_2 2 rfl rfl)
theorem dX5_beliefBy_51 : decode cX5_beliefBy 51 = .ok (.iadd, 1) := dk_96 (dk_at dksX5_beliefBy_2 4 rfl rfl)
theorem dX5_beliefBy_52 : decode cX5_beliefBy 52 = .ok (.iaload, 1) := dk_46 (dk_at dksX5_beliefBy_2 5 rfl rfl)
theorem dX5_beliefBy_53 : decode cX5_beliefBy 53 = .ok (.i2l, 1) := dk_133 (dk_at dksX5_beliefBy_2 6 rfl rfl)
theorem dX5_beliefBy_54 : decode cX5_beliefBy 54 = .ok (.goto 17, 3) := dk_167 0 17 (dk_at dksX5_beliefBy_2 7 rfl rfl)
theorem dX5_beliefBy_57 : decode cX5_beliefBy 57 = .ok (.bipush 10, 2) := dk_16 10 (dk_at dksX5_beliefBy_2 10 rfl rfl)
theorem dX5_beliefBy_59 : decode cX5_beliefBy 59 = .ok (.aload_n 0, 1) := dk_42 (dk_at dksX5_beliefBy_2 12 rfl rfl)
theorem dX5_beliefBy_60 : decode cX5_beliefBy 60 = .ok (.getfield 13, 3) := dk_180 0 13 (dk_at dksX5_beliefBy_2 13 rfl rfl)
theorem dX5_beliefBy_63 : decode cX5_beliefBy 63 = .ok (.bipush 37, 2) := dk_16 37 (dk_at dksX5_beliefBy_2 16 rfl rfl)
theorem dX5_beliefBy_65 : decode cX5_beliefBy 65 = .ok (.iload 9, 2) := dk_21 9 (dk_at dksX5_beliefBy_2 18 rfl rfl)
theorem dX5_beliefBy_67 : decode cX5_beliefBy 67 = .ok (.iadd, 1) := dk_96 (dk_at dksX5_beliefBy_2 20 rfl rfl)
theorem dX5_beliefBy_68 : decode cX5_beliefBy 68 = .ok (.iaload, 1) := dk_46 (dk_at dksX5_beliefBy_2 21 rfl rfl)
theorem dX5_beliefBy_69 : decode cX5_beliefBy 69 = .ok (.isub, 1) := dk_100 (dk_at dksX5_beliefBy_2 22 rfl rfl)
theorem dX5_beliefBy_70 : decode cX5_beliefBy 70 = .ok (.i2l, 1) := dk_133 (dk_at dksX5_beliefBy_2 23 rfl rfl)
theorem dX5_beliefBy_71 : decode cX5_beliefBy 71 = .ok (.lmul, 1) := dk_105 (dk_at dksX5_beliefBy_3 0 rfl rfl)
theorem dX5_beliefBy_72 : decode cX5_beliefBy 72 = .ok (.lstore_n 3, 1) := dk_66 (dk_at dksX5_beliefBy_3 1 rfl rfl)
theorem dX5_beliefBy_73 : decode cX5_beliefBy 73 = .ok (.lload 5, 2) := dk_22 5 (dk_at dksX5_beliefBy_3 2 rfl rfl)
theorem dX5_beliefBy_75 : decode cX5_beliefBy 75 = .ok (.iload_n 2, 1) := dk_28 (dk_at dksX5_beliefBy_3 4 rfl rfl)
theorem dX5_beliefBy_76 : decode cX5_beliefBy 76 = .ok (.iload 9, 2) := dk_21 9 (dk_at dksX5_beliefBy_3 5 rfl rfl)
theorem dX5_beliefBy_78 : decode cX5_beliefBy 78 = .ok (.invokestatic 170, 3) := dk_184 0 170 (dk_at dksX5_beliefBy_3 7 rfl rfl)
theorem dX5_beliefBy_81 : decode cX5_beliefBy 81 = .ok (.ifCond .eq 17, 3) := dk_153 0 17 (dk_at dksX5_beliefBy_3 10 rfl rfl)
theorem dX5_beliefBy_84 : decode cX5_beliefBy 84 = .ok (.aload_n 0, 1) := dk_42 (dk_at dksX5_beliefBy_3 13 rfl rfl)
theorem dX5_beliefBy_85 : decode cX5_beliefBy 85 = .ok (.getfield 13, 3) := dk_180 0 13 (dk_at dksX5_beliefBy_3 14 rfl rfl)
theorem dX5_beliefBy_88 : decode cX5_beliefBy 88 = .ok (.bipush 43, 2) := dk_16 43 (dk_at dksX5_beliefBy_3 17 rfl rfl)
theorem dX5_beliefBy_90 : decode cX5_beliefBy 90 = .ok (.iload 9, 2) := dk_21 9 (dk_at dksX5_beliefBy_3 19 rfl rfl)
theorem dX5_beliefBy_92 : decode cX5_beliefBy 92 = .ok (.iadd, 1) := dk_96 (dk_at dksX5_beliefBy_3 21 rfl rfl)
theorem dX5_beliefBy_93 : decode cX5_beliefBy 93 = .ok (.iaload, 1) := dk_46 (dk_at dksX5_beliefBy_3 22 rfl rfl)
theorem dX5_beliefBy_94 : decode cX5_beliefBy 94 = .ok (.i2l, 1) := dk_133 (dk_at dksX5_beliefBy_3 23 rfl rfl)
theorem dX5_beliefBy_95 : decode cX5_beliefBy 95 = .ok (.goto 17, 3) := dk_167 0 17 (dk_at dksX5_beliefBy_4 0 rfl rfl)
theorem dX5_beliefBy_98 : decode cX5_beliefBy 98 = .ok (.bipush 10, 2) := dk_16 10 (dk_at dksX5_beliefBy_4 3 rfl rfl)
theorem dX5_beliefBy_100 : decode cX5_beliefBy 100 = .ok (.aload_n 0, 1) := dk_42 (dk_at dksX5_beliefBy_4 5 rfl rfl)
theorem dX5_beliefBy_101 : decode cX5_beliefBy 101 = .ok (.getfield 13, 3) := dk_180 0 13 (dk_at dksX5_beliefBy_4 6 rfl rfl)
theorem dX5_beliefBy_104 : decode cX5_beliefBy 104 = .ok (.bipush 43, 2) := dk_16 43 (dk_at dksX5_beliefBy_4 9 rfl rfl)
theorem dX5_beliefBy_106 : decode cX5_beliefBy 106 = .ok (.iload 9, 2) := dk_21 9 (dk_at dksX5_beliefBy_4 11 rfl rfl)
theorem dX5_beliefBy_108 : decode cX5_beliefBy 108 = .ok (.iadd, 1) := dk_96 (dk_at dksX5_beliefBy_4 13 rfl rfl)
theorem dX5_beliefBy_109 : decode cX5_beliefBy 109 = .ok (.iaload, 1) := dk_46 (dk_at dksX5_beliefBy_4 14 rfl rfl)
theorem dX5_beliefBy_110 : decode cX5_beliefBy 110 = .ok (.isub, 1) := dk_100 (dk_at dksX5_beliefBy_4 15 rfl rfl)
theorem dX5_beliefBy_111 : decode cX5_beliefBy 111 = .ok (.i2l, 1) := dk_133 (dk_at dksX5_beliefBy_4 16 rfl rfl)
theorem dX5_beliefBy_112 : decode cX5_beliefBy 112 = .ok (.lmul, 1) := dk_105 (dk_at dksX5_beliefBy_4 17 rfl rfl)
theorem dX5_beliefBy_113 : decode cX5_beliefBy 113 = .ok (.lstore 5, 2) := dk_55 5 (dk_at dksX5_beliefBy_4 18 rfl rfl)
theorem dX5_beliefBy_115 : decode cX5_beliefBy 115 = .ok (.iinc 9 1, 3) := dk_132 9 1 (dk_at dksX5_beliefBy_4 20 rfl rfl)
theorem dX5_beliefBy_118 : decode cX5_beliefBy 118 = .ok (.goto (-92), 3) := dk_167 255 164 (dk_at dksX5_beliefBy_5 0 rfl rfl)
theorem dX5_beliefBy_121 : decode cX5_beliefBy 121 = .ok (.lload_n 3, 1) := dk_33 (dk_at dksX5_beliefBy_5 3 rfl rfl)
theorem dX5_beliefBy_122 : decode cX5_beliefBy 122 = .ok (.lload 5, 2) := dk_22 5 (dk_at dksX5_beliefBy_5 4 rfl rfl)
theorem dX5_beliefBy_124 : decode cX5_beliefBy 124 = .ok (.ladd, 1) := dk_97 (dk_at dksX5_beliefBy_5 6 rfl rfl)
theorem dX5_beliefBy_125 : decode cX5_beliefBy 125 = .ok (.lconst 0, 1) := dk_9 (dk_at dksX5_beliefBy_5 7 rfl rfl)
theorem dX5_beliefBy_126 : decode cX5_beliefBy 126 = .ok (.lcmp, 1) := dk_148 (dk_at dksX5_beliefBy_5 8 rfl rfl)
theorem dX5_beliefBy_127 : decode cX5_beliefBy 127 = .ok (.ifCond .ne 8, 3) := dk_154 0 8 (dk_at dksX5_beliefBy_5 9 rfl rfl)
theorem dX5_beliefBy_130 : decode cX5_beliefBy 130 = .ok (.lload 7, 2) := dk_22 7 (dk_at dksX5_beliefBy_5 12 rfl rfl)
theorem dX5_beliefBy_132 : decode cX5_beliefBy 132 = .ok (.goto 13, 3) := dk_167 0 13 (dk_at dksX5_beliefBy_5 14 rfl rfl)
theorem dX5_beliefBy_135 : decode cX5_beliefBy 135 = .ok (.lload_n 3, 1) := dk_33 (dk_at dksX5_beliefBy_5 17 rfl rfl)
theorem dX5_beliefBy_136 : decode cX5_beliefBy 136 = .ok (.ldc2_w 174, 3) := dk_20 0 174 (dk_at dksX5_beliefBy_5 18 rfl rfl)
theorem dX5_beliefBy_139 : decode cX5_beliefBy 139 = .ok (.lmul, 1) := dk_105 (dk_at dksX5_beliefBy_5 21 rfl rfl)
theorem dX5_beliefBy_140 : decode cX5_beliefBy 140 = .ok (.lload_n 3, 1) := dk_33 (dk_at dksX5_beliefBy_5 22 rfl rfl)
theorem dX5_beliefBy_141 : decode cX5_beliefBy 141 = .ok (.lload 5, 2) := dk_22 5 (dk_at dksX5_beliefBy_6 0 rfl rfl)
theorem dX5_beliefBy_143 : decode cX5_beliefBy 143 = .ok (.ladd, 1) := dk_97 (dk_at dksX5_beliefBy_6 2 rfl rfl)
theorem dX5_beliefBy_144 : decode cX5_beliefBy 144 = .ok (.ldiv, 1) := dk_109 (dk_at dksX5_beliefBy_6 3 rfl rfl)
theorem dX5_beliefBy_145 : decode cX5_beliefBy 145 = .ok (.lstore 9, 2) := dk_55 9 (dk_at dksX5_beliefBy_6 4 rfl rfl)
theorem dX5_beliefBy_147 : decode cX5_beliefBy 147 = .ok (.aload_n 0, 1) := dk_42 (dk_at dksX5_beliefBy_6 6 rfl rfl)
theorem dX5_beliefBy_148 : decode cX5_beliefBy 148 = .ok (.iload_n 1, 1) := dk_27 (dk_at dksX5_beliefBy_6 7 rfl rfl)
theorem dX5_beliefBy_149 : decode cX5_beliefBy 149 = .ok (.invokevirtual 176, 3) := dk_182 0 176 (dk_at dksX5_beliefBy_6 8 rfl rfl)
theorem dX5_beliefBy_152 : decode cX5_beliefBy 152 = .ok (.i2l, 1) := dk_133 (dk_at dksX5_beliefBy_6 11 rfl rfl)
theorem dX5_beliefBy_153 : decode cX5_beliefBy 153 = .ok (.lload 9, 2) := dk_22 9 (dk_at dksX5_beliefBy_6 12 rfl rfl)
theorem dX5_beliefBy_155 : decode cX5_beliefBy 155 = .ok (.lmul, 1) := dk_105 (dk_at dksX5_beliefBy_6 14 rfl rfl)
theorem dX5_beliefBy_156 : decode cX5_beliefBy 156 = .ok (.bipush 100, 2) := dk_16 100 (dk_at dksX5_beliefBy_6 15 rfl rfl)
theorem dX5_beliefBy_158 : decode cX5_beliefBy 158 = .ok (.aload_n 0, 1) := dk_42 (dk_at dksX5_beliefBy_6 17 rfl rfl)
theorem dX5_beliefBy_159 : decode cX5_beliefBy 159 = .ok (.iload_n 1, 1) := dk_27 (dk_at dksX5_beliefBy_6 18 rfl rfl)
theorem dX5_beliefBy_160 : decode cX5_beliefBy 160 = .ok (.invokevirtual 176, 3) := dk_182 0 176 (dk_at dksX5_beliefBy_6 19 rfl rfl)
theorem dX5_beliefBy_163 : decode cX5_beliefBy 163 = .ok (.isub, 1) := dk_100 (dk_at dksX5_beliefBy_6 22 rfl rfl)
theorem dX5_beliefBy_164 : decode cX5_beliefBy 164 = .ok (.i2l, 1) := dk_133 (dk_at dksX5_beliefBy_6 23 rfl rfl)
theorem dX5_beliefBy_165 : decode cX5_beliefBy 165 = .ok (.lload 7, 2) := dk_22 7 (dk_at dksX5_beliefBy_7 0 rfl rfl)
theorem dX5_beliefBy_167 : decode cX5_beliefBy 167 = .ok (.lmul, 1) := dk_105 (dk_at dksX5_beliefBy_7 2 rfl rfl)
theorem dX5_beliefBy_168 : decode cX5_beliefBy 168 = .ok (.ladd, 1) := dk_97 (dk_at dksX5_beliefBy_7 3 rfl rfl)
theorem dX5_beliefBy_169 : decode cX5_beliefBy 169 = .ok (.ldc2_w 179, 3) := dk_20 0 179 (dk_at dksX5_beliefBy_7 4 rfl rfl)
theorem dX5_beliefBy_172 : decode cX5_beliefBy 172 = .ok (.ldiv, 1) := dk_109 (dk_at dksX5_beliefBy_7 7 rfl rfl)
theorem dX5_beliefBy_173 : decode cX5_beliefBy 173 = .ok (.lreturn, 1) := dk_173 (dk_at dksX5_beliefBy_7 8 rfl rfl)
abbrev cX5_is : ByteArray := prog_22_method_4_code
def yX5_is : MethodName := ⟨RX5, "is", "(II)Z"⟩
def dkwX5_is_0 : List UInt8 := [26, 27, 122, 4, 126, 4, 160, 0, 7, 4, 167, 0, 4, 3, 172]
abbrev dktX5_is_0 : List UInt8 := dkwX5_is_0 ++ []
theorem dksX5_is_0 : cX5_is.data.toList.drop 0 = dktX5_is_0 := by decide +kernel
theorem dX5_is_0 : decode cX5_is 0 = .ok (.iload_n 0, 1) := dk_26 (dk_at dksX5_is_0 0 rfl rfl)
theorem dX5_is_1 : decode cX5_is 1 = .ok (.iload_n 1, 1) := dk_27 (dk_at dksX5_is_0 1 rfl rfl)
theorem dX5_is_2 : decode cX5_is 2 = .ok (.ishr, 1) := dk_122 (dk_at dksX5_is_0 2 rfl rfl)
theorem dX5_is_3 : decode cX5_is 3 = .ok (.iconst 1, 1) := dk_4 (dk_at dksX5_is_0 3 rfl rfl)
theorem dX5_is_4 : decode cX5_is 4 = .ok (.iand, 1) := dk_126 (dk_at dksX5_is_0 4 rfl rfl)
theorem dX5_is_5 : decode cX5_is 5 = .ok (.iconst 1, 1) := dk_4 (dk_at dksX5_is_0 5 rfl rfl)
theorem dX5_is_6 : decode cX5_is 6 = .ok (.if_icmp .ne 7, 3) := dk_160 0 7 (dk_at dksX5_is_0 6 rfl rfl)
theorem dX5_is_9 : decode cX5_is 9 = .ok (.iconst 1, 1) := dk_4 (dk_at dksX5_is_0 9 rfl rfl)
theorem dX5_is_10 : decode cX5_is 10 = .ok (.goto 4, 3) := dk_167 0 4 (dk_at dksX5_is_0 10 rfl rfl)
theorem dX5_is_13 : decode cX5_is 13 = .ok (.iconst 0, 1) := dk_3 (dk_at dksX5_is_0 13 rfl rfl)
theorem dX5_is_14 : decode cX5_is 14 = .ok (.ireturn, 1) := dk_172 (dk_at dksX5_is_0 14 rfl rfl)
abbrev cX5_fameOf : ByteArray := prog_22_method_17_code
def yX5_fameOf : MethodName := ⟨RX5, "fameOf", "(I)I"⟩
def dkwX5_fameOf_0 : List UInt8 := [42, 180, 0, 13, 16, 9, 42, 180, 0, 13, 16, 31, 27, 96, 46, 96, 46, 172]
abbrev dktX5_fameOf_0 : List UInt8 := dkwX5_fameOf_0 ++ []
theorem dksX5_fameOf_0 : cX5_fameOf.data.toList.drop 0 = dktX5_fameOf_0 := by decide +kernel
theorem dX5_fameOf_0 : decode cX5_fameOf 0 = .ok (.aload_n 0, 1) := dk_42 (dk_at dksX5_fameOf_0 0 rfl rfl)
theorem dX5_fameOf_1 : decode cX5_fameOf 1 = .ok (.getfield 13, 3) := dk_180 0 13 (dk_at dksX5_fameOf_0 1 rfl rfl)
theorem dX5_fameOf_4 : decode cX5_fameOf 4 = .ok (.bipush 9, 2) := dk_16 9 (dk_at dksX5_fameOf_0 4 rfl rfl)
theorem dX5_fameOf_6 : decode cX5_fameOf 6 = .ok (.aload_n 0, 1) := dk_42 (dk_at dksX5_fameOf_0 6 rfl rfl)
theorem dX5_fameOf_7 : decode cX5_fameOf 7 = .ok (.getfield 13, 3) := dk_180 0 13 (dk_at dksX5_fameOf_0 7 rfl rfl)
theorem dX5_fameOf_10 : decode cX5_fameOf 10 = .ok (.bipush 31, 2) := dk_16 31 (dk_at dksX5_fameOf_0 10 rfl rfl)
theorem dX5_fameOf_12 : decode cX5_fameOf 12 = .ok (.iload_n 1, 1) := dk_27 (dk_at dksX5_fameOf_0 12 rfl rfl)
theorem dX5_fameOf_13 : decode cX5_fameOf 13 = .ok (.iadd, 1) := dk_96 (dk_at dksX5_fameOf_0 13 rfl rfl)
theorem dX5_fameOf_14 : decode cX5_fameOf 14 = .ok (.iaload, 1) := dk_46 (dk_at dksX5_fameOf_0 14 rfl rfl)
theorem dX5_fameOf_15 : decode cX5_fameOf 15 = .ok (.iadd, 1) := dk_96 (dk_at dksX5_fameOf_0 15 rfl rfl)
theorem dX5_fameOf_16 : decode cX5_fameOf 16 = .ok (.iaload, 1) := dk_46 (dk_at dksX5_fameOf_0 16 rfl rfl)
theorem dX5_fameOf_17 : decode cX5_fameOf 17 = .ok (.ireturn, 1) := dk_172 (dk_at dksX5_fameOf_0 17 rfl rfl)
abbrev cX5_sign : ByteArray := prog_22_method_23_code
def yX5_sign : MethodName := ⟨RX5, "sign", "(III)I"⟩
def dkwX5_sign_3 : List UInt8 := [160, 0, 8, 16, 43, 167, 0, 5, 16, 49, 27, 96, 29, 182, 0, 206, 172]
abbrev dktX5_sign_3 : List UInt8 := dkwX5_sign_3 ++ []
def dkwX5_sign_2 : List UInt8 := [2, 182, 0, 155, 172, 42, 3, 181, 0, 148, 42, 28, 154, 0, 8, 16, 37, 167, 0, 15, 28, 4]
abbrev dktX5_sign_2 : List UInt8 := dkwX5_sign_2 ++ dktX5_sign_3
def dkwX5_sign_1 : List UInt8 := [29, 133, 9, 28, 5, 160, 0, 9, 20, 0, 187, 167, 0, 6, 20, 0, 204, 184, 0, 162, 154, 0, 9, 42]
abbrev dktX5_sign_1 : List UInt8 := dkwX5_sign_1 ++ dktX5_sign_2
def dkwX5_sign_0 : List UInt8 := [42, 3, 181, 0, 142, 27, 184, 0, 199, 153, 0, 38, 28, 133, 9, 20, 0, 202, 184, 0, 162, 153, 0, 26]
abbrev dktX5_sign_0 : List UInt8 := dkwX5_sign_0 ++ dktX5_sign_1
theorem dksX5_sign_0 : cX5_sign.data.toList.drop 0 = dktX5_sign_0 := by decide +kernel
theorem dksX5_sign_1 : cX5_sign.data.toList.drop 24 = dktX5_sign_1 := dk_seg dksX5_sign_0 24 rfl rfl
theorem dksX5_sign_2 : cX5_sign.data.toList.drop 48 = dktX5_sign_2 := dk_seg dksX5_sign_1 24 rfl rfl
theorem dksX5_sign_3 : cX5_sign.data.toList.drop 70 = dktX5_sign_3 := dk_seg dksX5_sign_2 22 rfl rfl
theorem dX5_sign_0 : decode cX5_sign 0 = .ok (.aload_n 0, 1) := dk_42 (dk_at dksX5_sign_0 0 rfl rfl)
theorem dX5_sign_1 : decode cX5_sign 1 = .ok (.iconst 0, 1) := dk_3 (dk_at dksX5_sign_0 1 rfl rfl)
theorem dX5_sign_2 : decode cX5_sign 2 = .ok (.putfield 142, 3) := dk_181 0 142 (dk_at dksX5_sign_0 2 rfl rfl)
theorem dX5_sign_5 : decode cX5_sign 5 = .ok (.iload_n 1, 1) := dk_27 (dk_at dksX5_sign_0 5 rfl rfl)
theorem dX5_sign_6 : decode cX5_sign 6 = .ok (.invokestatic 199, 3) := dk_184 0 199 (dk_at dksX5_sign_0 6 rfl rfl)
theorem dX5_sign_9 : decode cX5_sign 9 = .ok (.ifCond .eq 38, 3) := dk_153 0 38 (dk_at dksX5_sign_0 9 rfl rfl)
theorem dX5_sign_12 : decode cX5_sign 12 = .ok (.iload_n 2, 1) := dk_28 (dk_at dksX5_sign_0 12 rfl rfl)
theorem dX5_sign_13 : decode cX5_sign 13 = .ok (.i2l, 1) := dk_133 (dk_at dksX5_sign_0 13 rfl rfl)
theorem dX5_sign_14 : decode cX5_sign 14 = .ok (.lconst 0, 1) := dk_9 (dk_at dksX5_sign_0 14 rfl rfl)
theorem dX5_sign_15 : decode cX5_sign 15 = .ok (.ldc2_w 202, 3) := dk_20 0 202 (dk_at dksX5_sign_0 15 rfl rfl)
theorem dX5_sign_18 : decode cX5_sign 18 = .ok (.invokestatic 162, 3) := dk_184 0 162 (dk_at dksX5_sign_0 18 rfl rfl)
theorem dX5_sign_21 : decode cX5_sign 21 = .ok (.ifCond .eq 26, 3) := dk_153 0 26 (dk_at dksX5_sign_0 21 rfl rfl)
theorem dX5_sign_24 : decode cX5_sign 24 = .ok (.iload_n 3, 1) := dk_29 (dk_at dksX5_sign_1 0 rfl rfl)
theorem dX5_sign_25 : decode cX5_sign 25 = .ok (.i2l, 1) := dk_133 (dk_at dksX5_sign_1 1 rfl rfl)
theorem dX5_sign_26 : decode cX5_sign 26 = .ok (.lconst 0, 1) := dk_9 (dk_at dksX5_sign_1 2 rfl rfl)
theorem dX5_sign_27 : decode cX5_sign 27 = .ok (.iload_n 2, 1) := dk_28 (dk_at dksX5_sign_1 3 rfl rfl)
theorem dX5_sign_28 : decode cX5_sign 28 = .ok (.iconst 2, 1) := dk_5 (dk_at dksX5_sign_1 4 rfl rfl)
theorem dX5_sign_29 : decode cX5_sign 29 = .ok (.if_icmp .ne 9, 3) := dk_160 0 9 (dk_at dksX5_sign_1 5 rfl rfl)
theorem dX5_sign_32 : decode cX5_sign 32 = .ok (.ldc2_w 187, 3) := dk_20 0 187 (dk_at dksX5_sign_1 8 rfl rfl)
theorem dX5_sign_35 : decode cX5_sign 35 = .ok (.goto 6, 3) := dk_167 0 6 (dk_at dksX5_sign_1 11 rfl rfl)
theorem dX5_sign_38 : decode cX5_sign 38 = .ok (.ldc2_w 204, 3) := dk_20 0 204 (dk_at dksX5_sign_1 14 rfl rfl)
theorem dX5_sign_41 : decode cX5_sign 41 = .ok (.invokestatic 162, 3) := dk_184 0 162 (dk_at dksX5_sign_1 17 rfl rfl)
theorem dX5_sign_44 : decode cX5_sign 44 = .ok (.ifCond .ne 9, 3) := dk_154 0 9 (dk_at dksX5_sign_1 20 rfl rfl)
theorem dX5_sign_47 : decode cX5_sign 47 = .ok (.aload_n 0, 1) := dk_42 (dk_at dksX5_sign_1 23 rfl rfl)
theorem dX5_sign_48 : decode cX5_sign 48 = .ok (.iconst (-1), 1) := dk_2 (dk_at dksX5_sign_2 0 rfl rfl)
theorem dX5_sign_49 : decode cX5_sign 49 = .ok (.invokevirtual 155, 3) := dk_182 0 155 (dk_at dksX5_sign_2 1 rfl rfl)
theorem dX5_sign_52 : decode cX5_sign 52 = .ok (.ireturn, 1) := dk_172 (dk_at dksX5_sign_2 4 rfl rfl)
theorem dX5_sign_53 : decode cX5_sign 53 = .ok (.aload_n 0, 1) := dk_42 (dk_at dksX5_sign_2 5 rfl rfl)
theorem dX5_sign_54 : decode cX5_sign 54 = .ok (.iconst 0, 1) := dk_3 (dk_at dksX5_sign_2 6 rfl rfl)
theorem dX5_sign_55 : decode cX5_sign 55 = .ok (.putfield 148, 3) := dk_181 0 148 (dk_at dksX5_sign_2 7 rfl rfl)
theorem dX5_sign_58 : decode cX5_sign 58 = .ok (.aload_n 0, 1) := dk_42 (dk_at dksX5_sign_2 10 rfl rfl)
theorem dX5_sign_59 : decode cX5_sign 59 = .ok (.iload_n 2, 1) := dk_28 (dk_at dksX5_sign_2 11 rfl rfl)
theorem dX5_sign_60 : decode cX5_sign 60 = .ok (.ifCond .ne 8, 3) := dk_154 0 8 (dk_at dksX5_sign_2 12 rfl rfl)
theorem dX5_sign_63 : decode cX5_sign 63 = .ok (.bipush 37, 2) := dk_16 37 (dk_at dksX5_sign_2 15 rfl rfl)
theorem dX5_sign_65 : decode cX5_sign 65 = .ok (.goto 15, 3) := dk_167 0 15 (dk_at dksX5_sign_2 17 rfl rfl)
theorem dX5_sign_68 : decode cX5_sign 68 = .ok (.iload_n 2, 1) := dk_28 (dk_at dksX5_sign_2 20 rfl rfl)
theorem dX5_sign_69 : decode cX5_sign 69 = .ok (.iconst 1, 1) := dk_4 (dk_at dksX5_sign_2 21 rfl rfl)
theorem dX5_sign_70 : decode cX5_sign 70 = .ok (.if_icmp .ne 8, 3) := dk_160 0 8 (dk_at dksX5_sign_3 0 rfl rfl)
theorem dX5_sign_73 : decode cX5_sign 73 = .ok (.bipush 43, 2) := dk_16 43 (dk_at dksX5_sign_3 3 rfl rfl)
theorem dX5_sign_75 : decode cX5_sign 75 = .ok (.goto 5, 3) := dk_167 0 5 (dk_at dksX5_sign_3 5 rfl rfl)
theorem dX5_sign_78 : decode cX5_sign 78 = .ok (.bipush 49, 2) := dk_16 49 (dk_at dksX5_sign_3 8 rfl rfl)
theorem dX5_sign_80 : decode cX5_sign 80 = .ok (.iload_n 1, 1) := dk_27 (dk_at dksX5_sign_3 10 rfl rfl)
theorem dX5_sign_81 : decode cX5_sign 81 = .ok (.iadd, 1) := dk_96 (dk_at dksX5_sign_3 11 rfl rfl)
theorem dX5_sign_82 : decode cX5_sign 82 = .ok (.iload_n 3, 1) := dk_29 (dk_at dksX5_sign_3 12 rfl rfl)
theorem dX5_sign_83 : decode cX5_sign 83 = .ok (.invokevirtual 206, 3) := dk_182 0 206 (dk_at dksX5_sign_3 13 rfl rfl)
theorem dX5_sign_86 : decode cX5_sign 86 = .ok (.ireturn, 1) := dk_172 (dk_at dksX5_sign_3 16 rfl rfl)
abbrev cX5_isOne : ByteArray := prog_22_method_16_code
def yX5_isOne : MethodName := ⟨RX5, "isOne", "(I)Z"⟩
def dkwX5_isOne_0 : List UInt8 := [26, 133, 9, 20, 0, 166, 184, 0, 162, 172]
abbrev dktX5_isOne_0 : List UInt8 := dkwX5_isOne_0 ++ []
theorem dksX5_isOne_0 : cX5_isOne.data.toList.drop 0 = dktX5_isOne_0 := by decide +kernel
theorem dX5_isOne_0 : decode cX5_isOne 0 = .ok (.iload_n 0, 1) := dk_26 (dk_at dksX5_isOne_0 0 rfl rfl)
theorem dX5_isOne_1 : decode cX5_isOne 1 = .ok (.i2l, 1) := dk_133 (dk_at dksX5_isOne_0 1 rfl rfl)
theorem dX5_isOne_2 : decode cX5_isOne 2 = .ok (.lconst 0, 1) := dk_9 (dk_at dksX5_isOne_0 2 rfl rfl)
theorem dX5_isOne_3 : decode cX5_isOne 3 = .ok (.ldc2_w 166, 3) := dk_20 0 166 (dk_at dksX5_isOne_0 3 rfl rfl)
theorem dX5_isOne_6 : decode cX5_isOne 6 = .ok (.invokestatic 162, 3) := dk_184 0 162 (dk_at dksX5_isOne_0 6 rfl rfl)
theorem dX5_isOne_9 : decode cX5_isOne 9 = .ok (.ireturn, 1) := dk_172 (dk_at dksX5_isOne_0 9 rfl rfl)
abbrev cX5_change : ByteArray := prog_22_method_8_code
def yX5_change : MethodName := ⟨RX5, "change", "(II)I"⟩
def dkwX5_change_0 : List UInt8 := [42, 180, 0, 13, 27, 46, 62, 42, 180, 0, 13, 27, 28, 79, 42, 3, 181, 0, 145, 29, 172]
abbrev dktX5_change_0 : List UInt8 := dkwX5_change_0 ++ []
theorem dksX5_change_0 : cX5_change.data.toList.drop 0 = dktX5_change_0 := by decide +kernel
theorem dX5_change_0 : decode cX5_change 0 = .ok (.aload_n 0, 1) := dk_42 (dk_at dksX5_change_0 0 rfl rfl)
theorem dX5_change_1 : decode cX5_change 1 = .ok (.getfield 13, 3) := dk_180 0 13 (dk_at dksX5_change_0 1 rfl rfl)
theorem dX5_change_4 : decode cX5_change 4 = .ok (.iload_n 1, 1) := dk_27 (dk_at dksX5_change_0 4 rfl rfl)
theorem dX5_change_5 : decode cX5_change 5 = .ok (.iaload, 1) := dk_46 (dk_at dksX5_change_0 5 rfl rfl)
theorem dX5_change_6 : decode cX5_change 6 = .ok (.istore_n 3, 1) := dk_62 (dk_at dksX5_change_0 6 rfl rfl)
theorem dX5_change_7 : decode cX5_change 7 = .ok (.aload_n 0, 1) := dk_42 (dk_at dksX5_change_0 7 rfl rfl)
theorem dX5_change_8 : decode cX5_change 8 = .ok (.getfield 13, 3) := dk_180 0 13 (dk_at dksX5_change_0 8 rfl rfl)
theorem dX5_change_11 : decode cX5_change 11 = .ok (.iload_n 1, 1) := dk_27 (dk_at dksX5_change_0 11 rfl rfl)
theorem dX5_change_12 : decode cX5_change 12 = .ok (.iload_n 2, 1) := dk_28 (dk_at dksX5_change_0 12 rfl rfl)
theorem dX5_change_13 : decode cX5_change 13 = .ok (.iastore, 1) := dk_79 (dk_at dksX5_change_0 13 rfl rfl)
theorem dX5_change_14 : decode cX5_change 14 = .ok (.aload_n 0, 1) := dk_42 (dk_at dksX5_change_0 14 rfl rfl)
theorem dX5_change_15 : decode cX5_change 15 = .ok (.iconst 0, 1) := dk_3 (dk_at dksX5_change_0 15 rfl rfl)
theorem dX5_change_16 : decode cX5_change 16 = .ok (.putfield 145, 3) := dk_181 0 145 (dk_at dksX5_change_0 16 rfl rfl)
theorem dX5_change_19 : decode cX5_change 19 = .ok (.iload_n 3, 1) := dk_29 (dk_at dksX5_change_0 19 rfl rfl)
theorem dX5_change_20 : decode cX5_change 20 = .ok (.ireturn, 1) := dk_172 (dk_at dksX5_change_0 20 rfl rfl)
abbrev cX5_road : ByteArray := prog_22_method_24_code
def yX5_road : MethodName := ⟨RX5, "road", "(III)I"⟩
def dkwX5_road_3 : List UInt8 := [27, 104, 96, 28, 96, 29, 182, 0, 206, 172]
abbrev dktX5_road_3 : List UInt8 := dkwX5_road_3 ++ []
def dkwX5_road_2 : List UInt8 := [182, 0, 155, 172, 42, 180, 0, 13, 16, 55, 16, 6, 28, 104, 96, 27, 96, 29, 79, 42, 16, 55, 16, 6]
abbrev dktX5_road_2 : List UInt8 := dkwX5_road_2 ++ dktX5_road_3
def dkwX5_road_1 : List UInt8 := [182, 0, 155, 172, 42, 27, 182, 0, 195, 153, 0, 11, 42, 28, 182, 0, 195, 154, 0, 10, 42, 16, 254]
abbrev dktX5_road_1 : List UInt8 := dkwX5_road_1 ++ dktX5_road_2
def dkwX5_road_0 : List UInt8 := [42, 3, 181, 0, 142, 27, 28, 159, 0, 15, 29, 133, 9, 20, 0, 187, 184, 0, 162, 154, 0, 9, 42, 2]
abbrev dktX5_road_0 : List UInt8 := dkwX5_road_0 ++ dktX5_road_1
theorem dksX5_road_0 : cX5_road.data.toList.drop 0 = dktX5_road_0 := by decide +kernel
theorem dksX5_road_1 : cX5_road.data.toList.drop 24 = dktX5_road_1 := dk_seg dksX5_road_0 24 rfl rfl
theorem dksX5_road_2 : cX5_road.data.toList.drop 47 = dktX5_road_2 := dk_seg dksX5_road_1 23 rfl rfl
theorem dksX5_road_3 : cX5_road.data.toList.drop 71 = dktX5_road_3 := dk_seg dksX5_road_2 24 rfl rfl
theorem dX5_road_0 : decode cX5_road 0 = .ok (.aload_n 0, 1) := dk_42 (dk_at dksX5_road_0 0 rfl rfl)
theorem dX5_road_1 : decode cX5_road 1 = .ok (.iconst 0, 1) := dk_3 (dk_at dksX5_road_0 1 rfl rfl)
theorem dX5_road_2 : decode cX5_road 2 = .ok (.putfield 142, 3) := dk_181 0 142 (dk_at dksX5_road_0 2 rfl rfl)
theorem dX5_road_5 : decode cX5_road 5 = .ok (.iload_n 1, 1) := dk_27 (dk_at dksX5_road_0 5 rfl rfl)
theorem dX5_road_6 : decode cX5_road 6 = .ok (.iload_n 2, 1) := dk_28 (dk_at dksX5_road_0 6 rfl rfl)
theorem dX5_road_7 : decode cX5_road 7 = .ok (.if_icmp .eq 15, 3) := dk_159 0 15 (dk_at dksX5_road_0 7 rfl rfl)
theorem dX5_road_10 : decode cX5_road 10 = .ok (.iload_n 3, 1) := dk_29 (dk_at dksX5_road_0 10 rfl rfl)
theorem dX5_road_11 : decode cX5_road 11 = .ok (.i2l, 1) := dk_133 (dk_at dksX5_road_0 11 rfl rfl)
theorem dX5_road_12 : decode cX5_road 12 = .ok (.lconst 0, 1) := dk_9 (dk_at dksX5_road_0 12 rfl rfl)
theorem dX5_road_13 : decode cX5_road 13 = .ok (.ldc2_w 187, 3) := dk_20 0 187 (dk_at dksX5_road_0 13 rfl rfl)
theorem dX5_road_16 : decode cX5_road 16 = .ok (.invokestatic 162, 3) := dk_184 0 162 (dk_at dksX5_road_0 16 rfl rfl)
theorem dX5_road_19 : decode cX5_road 19 = .ok (.ifCond .ne 9, 3) := dk_154 0 9 (dk_at dksX5_road_0 19 rfl rfl)
theorem dX5_road_22 : decode cX5_road 22 = .ok (.aload_n 0, 1) := dk_42 (dk_at dksX5_road_0 22 rfl rfl)
theorem dX5_road_23 : decode cX5_road 23 = .ok (.iconst (-1), 1) := dk_2 (dk_at dksX5_road_0 23 rfl rfl)
theorem dX5_road_24 : decode cX5_road 24 = .ok (.invokevirtual 155, 3) := dk_182 0 155 (dk_at dksX5_road_1 0 rfl rfl)
theorem dX5_road_27 : decode cX5_road 27 = .ok (.ireturn, 1) := dk_172 (dk_at dksX5_road_1 3 rfl rfl)
theorem dX5_road_28 : decode cX5_road 28 = .ok (.aload_n 0, 1) := dk_42 (dk_at dksX5_road_1 4 rfl rfl)
theorem dX5_road_29 : decode cX5_road 29 = .ok (.iload_n 1, 1) := dk_27 (dk_at dksX5_road_1 5 rfl rfl)
theorem dX5_road_30 : decode cX5_road 30 = .ok (.invokevirtual 195, 3) := dk_182 0 195 (dk_at dksX5_road_1 6 rfl rfl)
theorem dX5_road_33 : decode cX5_road 33 = .ok (.ifCond .eq 11, 3) := dk_153 0 11 (dk_at dksX5_road_1 9 rfl rfl)
theorem dX5_road_36 : decode cX5_road 36 = .ok (.aload_n 0, 1) := dk_42 (dk_at dksX5_road_1 12 rfl rfl)
theorem dX5_road_37 : decode cX5_road 37 = .ok (.iload_n 2, 1) := dk_28 (dk_at dksX5_road_1 13 rfl rfl)
theorem dX5_road_38 : decode cX5_road 38 = .ok (.invokevirtual 195, 3) := dk_182 0 195 (dk_at dksX5_road_1 14 rfl rfl)
theorem dX5_road_41 : decode cX5_road 41 = .ok (.ifCond .ne 10, 3) := dk_154 0 10 (dk_at dksX5_road_1 17 rfl rfl)
theorem dX5_road_44 : decode cX5_road 44 = .ok (.aload_n 0, 1) := dk_42 (dk_at dksX5_road_1 20 rfl rfl)
theorem dX5_road_45 : decode cX5_road 45 = .ok (.bipush (-2), 2) := dk_16 254 (dk_at dksX5_road_1 21 rfl rfl)
theorem dX5_road_47 : decode cX5_road 47 = .ok (.invokevirtual 155, 3) := dk_182 0 155 (dk_at dksX5_road_2 0 rfl rfl)
theorem dX5_road_50 : decode cX5_road 50 = .ok (.ireturn, 1) := dk_172 (dk_at dksX5_road_2 3 rfl rfl)
theorem dX5_road_51 : decode cX5_road 51 = .ok (.aload_n 0, 1) := dk_42 (dk_at dksX5_road_2 4 rfl rfl)
theorem dX5_road_52 : decode cX5_road 52 = .ok (.getfield 13, 3) := dk_180 0 13 (dk_at dksX5_road_2 5 rfl rfl)
theorem dX5_road_55 : decode cX5_road 55 = .ok (.bipush 55, 2) := dk_16 55 (dk_at dksX5_road_2 8 rfl rfl)
theorem dX5_road_57 : decode cX5_road 57 = .ok (.bipush 6, 2) := dk_16 6 (dk_at dksX5_road_2 10 rfl rfl)
theorem dX5_road_59 : decode cX5_road 59 = .ok (.iload_n 2, 1) := dk_28 (dk_at dksX5_road_2 12 rfl rfl)
theorem dX5_road_60 : decode cX5_road 60 = .ok (.imul, 1) := dk_104 (dk_at dksX5_road_2 13 rfl rfl)
theorem dX5_road_61 : decode cX5_road 61 = .ok (.iadd, 1) := dk_96 (dk_at dksX5_road_2 14 rfl rfl)
theorem dX5_road_62 : decode cX5_road 62 = .ok (.iload_n 1, 1) := dk_27 (dk_at dksX5_road_2 15 rfl rfl)
theorem dX5_road_63 : decode cX5_road 63 = .ok (.iadd, 1) := dk_96 (dk_at dksX5_road_2 16 rfl rfl)
theorem dX5_road_64 : decode cX5_road 64 = .ok (.iload_n 3, 1) := dk_29 (dk_at dksX5_road_2 17 rfl rfl)
theorem dX5_road_65 : decode cX5_road 65 = .ok (.iastore, 1) := dk_79 (dk_at dksX5_road_2 18 rfl rfl)
theorem dX5_road_66 : decode cX5_road 66 = .ok (.aload_n 0, 1) := dk_42 (dk_at dksX5_road_2 19 rfl rfl)
theorem dX5_road_67 : decode cX5_road 67 = .ok (.bipush 55, 2) := dk_16 55 (dk_at dksX5_road_2 20 rfl rfl)
theorem dX5_road_69 : decode cX5_road 69 = .ok (.bipush 6, 2) := dk_16 6 (dk_at dksX5_road_2 22 rfl rfl)
theorem dX5_road_71 : decode cX5_road 71 = .ok (.iload_n 1, 1) := dk_27 (dk_at dksX5_road_3 0 rfl rfl)
theorem dX5_road_72 : decode cX5_road 72 = .ok (.imul, 1) := dk_104 (dk_at dksX5_road_3 1 rfl rfl)
theorem dX5_road_73 : decode cX5_road 73 = .ok (.iadd, 1) := dk_96 (dk_at dksX5_road_3 2 rfl rfl)
theorem dX5_road_74 : decode cX5_road 74 = .ok (.iload_n 2, 1) := dk_28 (dk_at dksX5_road_3 3 rfl rfl)
theorem dX5_road_75 : decode cX5_road 75 = .ok (.iadd, 1) := dk_96 (dk_at dksX5_road_3 4 rfl rfl)
theorem dX5_road_76 : decode cX5_road 76 = .ok (.iload_n 3, 1) := dk_29 (dk_at dksX5_road_3 5 rfl rfl)
theorem dX5_road_77 : decode cX5_road 77 = .ok (.invokevirtual 206, 3) := dk_182 0 206 (dk_at dksX5_road_3 6 rfl rfl)
theorem dX5_road_80 : decode cX5_road 80 = .ok (.ireturn, 1) := dk_172 (dk_at dksX5_road_3 9 rfl rfl)
abbrev cX5_fame : ByteArray := prog_22_method_25_code
def yX5_fame : MethodName := ⟨RX5, "fame", "(II)I"⟩
def dkwX5_fame_2 : List UInt8 := [182, 0, 206, 172]
abbrev dktX5_fame_2 : List UInt8 := dkwX5_fame_2 ++ []
def dkwX5_fame_1 : List UInt8 := [184, 0, 162, 154, 0, 9, 42, 2, 182, 0, 155, 172, 42, 3, 181, 0, 148, 42, 16, 9, 27, 96, 28]
abbrev dktX5_fame_1 : List UInt8 := dkwX5_fame_1 ++ dktX5_fame_2
def dkwX5_fame_0 : List UInt8 := [42, 3, 181, 0, 142, 27, 133, 9, 20, 0, 189, 184, 0, 162, 153, 0, 15, 28, 133, 9, 20, 0, 179]
abbrev dktX5_fame_0 : List UInt8 := dkwX5_fame_0 ++ dktX5_fame_1
theorem dksX5_fame_0 : cX5_fame.data.toList.drop 0 = dktX5_fame_0 := by decide +kernel
theorem dksX5_fame_1 : cX5_fame.data.toList.drop 23 = dktX5_fame_1 := dk_seg dksX5_fame_0 23 rfl rfl
theorem dksX5_fame_2 : cX5_fame.data.toList.drop 46 = dktX5_fame_2 := dk_seg dksX5_fame_1 23 rfl rfl
theorem dX5_fame_0 : decode cX5_fame 0 = .ok (.aload_n 0, 1) := dk_42 (dk_at dksX5_fame_0 0 rfl rfl)
theorem dX5_fame_1 : decode cX5_fame 1 = .ok (.iconst 0, 1) := dk_3 (dk_at dksX5_fame_0 1 rfl rfl)
theorem dX5_fame_2 : decode cX5_fame 2 = .ok (.putfield 142, 3) := dk_181 0 142 (dk_at dksX5_fame_0 2 rfl rfl)
theorem dX5_fame_5 : decode cX5_fame 5 = .ok (.iload_n 1, 1) := dk_27 (dk_at dksX5_fame_0 5 rfl rfl)
theorem dX5_fame_6 : decode cX5_fame 6 = .ok (.i2l, 1) := dk_133 (dk_at dksX5_fame_0 6 rfl rfl)
theorem dX5_fame_7 : decode cX5_fame 7 = .ok (.lconst 0, 1) := dk_9 (dk_at dksX5_fame_0 7 rfl rfl)
theorem dX5_fame_8 : decode cX5_fame 8 = .ok (.ldc2_w 189, 3) := dk_20 0 189 (dk_at dksX5_fame_0 8 rfl rfl)
theorem dX5_fame_11 : decode cX5_fame 11 = .ok (.invokestatic 162, 3) := dk_184 0 162 (dk_at dksX5_fame_0 11 rfl rfl)
theorem dX5_fame_14 : decode cX5_fame 14 = .ok (.ifCond .eq 15, 3) := dk_153 0 15 (dk_at dksX5_fame_0 14 rfl rfl)
theorem dX5_fame_17 : decode cX5_fame 17 = .ok (.iload_n 2, 1) := dk_28 (dk_at dksX5_fame_0 17 rfl rfl)
theorem dX5_fame_18 : decode cX5_fame 18 = .ok (.i2l, 1) := dk_133 (dk_at dksX5_fame_0 18 rfl rfl)
theorem dX5_fame_19 : decode cX5_fame 19 = .ok (.lconst 0, 1) := dk_9 (dk_at dksX5_fame_0 19 rfl rfl)
theorem dX5_fame_20 : decode cX5_fame 20 = .ok (.ldc2_w 179, 3) := dk_20 0 179 (dk_at dksX5_fame_0 20 rfl rfl)
theorem dX5_fame_23 : decode cX5_fame 23 = .ok (.invokestatic 162, 3) := dk_184 0 162 (dk_at dksX5_fame_1 0 rfl rfl)
theorem dX5_fame_26 : decode cX5_fame 26 = .ok (.ifCond .ne 9, 3) := dk_154 0 9 (dk_at dksX5_fame_1 3 rfl rfl)
theorem dX5_fame_29 : decode cX5_fame 29 = .ok (.aload_n 0, 1) := dk_42 (dk_at dksX5_fame_1 6 rfl rfl)
theorem dX5_fame_30 : decode cX5_fame 30 = .ok (.iconst (-1), 1) := dk_2 (dk_at dksX5_fame_1 7 rfl rfl)
theorem dX5_fame_31 : decode cX5_fame 31 = .ok (.invokevirtual 155, 3) := dk_182 0 155 (dk_at dksX5_fame_1 8 rfl rfl)
theorem dX5_fame_34 : decode cX5_fame 34 = .ok (.ireturn, 1) := dk_172 (dk_at dksX5_fame_1 11 rfl rfl)
theorem dX5_fame_35 : decode cX5_fame 35 = .ok (.aload_n 0, 1) := dk_42 (dk_at dksX5_fame_1 12 rfl rfl)
theorem dX5_fame_36 : decode cX5_fame 36 = .ok (.iconst 0, 1) := dk_3 (dk_at dksX5_fame_1 13 rfl rfl)
theorem dX5_fame_37 : decode cX5_fame 37 = .ok (.putfield 148, 3) := dk_181 0 148 (dk_at dksX5_fame_1 14 rfl rfl)
theorem dX5_fame_40 : decode cX5_fame 40 = .ok (.aload_n 0, 1) := dk_42 (dk_at dksX5_fame_1 17 rfl rfl)
theorem dX5_fame_41 : decode cX5_fame 41 = .ok (.bipush 9, 2) := dk_16 9 (dk_at dksX5_fame_1 18 rfl rfl)
theorem dX5_fame_43 : decode cX5_fame 43 = .ok (.iload_n 1, 1) := dk_27 (dk_at dksX5_fame_1 20 rfl rfl)
theorem dX5_fame_44 : decode cX5_fame 44 = .ok (.iadd, 1) := dk_96 (dk_at dksX5_fame_1 21 rfl rfl)
theorem dX5_fame_45 : decode cX5_fame 45 = .ok (.iload_n 2, 1) := dk_28 (dk_at dksX5_fame_1 22 rfl rfl)
theorem dX5_fame_46 : decode cX5_fame 46 = .ok (.invokevirtual 206, 3) := dk_182 0 206 (dk_at dksX5_fame_2 0 rfl rfl)
theorem dX5_fame_49 : decode cX5_fame 49 = .ok (.ireturn, 1) := dk_172 (dk_at dksX5_fame_2 3 rfl rfl)
abbrev cX5_terms : ByteArray := prog_22_method_26_code
def yX5_terms : MethodName := ⟨RX5, "terms", "(II)I"⟩
def dkwX5_terms_3 : List UInt8 := [172, 42, 3, 181, 0, 148, 42, 16, 6, 27, 96, 28, 182, 0, 206, 172]
abbrev dktX5_terms_3 : List UInt8 := dkwX5_terms_3 ++ []
def dkwX5_terms_2 : List UInt8 := [20, 0, 211, 184, 0, 162, 153, 0, 7, 4, 167, 0, 4, 3, 62, 29, 154, 0, 9, 42, 2, 182, 0, 155]
abbrev dktX5_terms_2 : List UInt8 := dkwX5_terms_2 ++ dktX5_terms_3
def dkwX5_terms_1 : List UInt8 := [160, 0, 15, 28, 133, 9, 20, 0, 168, 184, 0, 162, 167, 0, 25, 27, 5, 160, 0, 19, 28, 133, 9]
abbrev dktX5_terms_1 : List UInt8 := dkwX5_terms_1 ++ dktX5_terms_2
def dkwX5_terms_0 : List UInt8 := [42, 3, 181, 0, 142, 27, 154, 0, 15, 28, 133, 9, 20, 0, 209, 184, 0, 162, 167, 0, 42, 27, 4]
abbrev dktX5_terms_0 : List UInt8 := dkwX5_terms_0 ++ dktX5_terms_1
theorem dksX5_terms_0 : cX5_terms.data.toList.drop 0 = dktX5_terms_0 := by decide +kernel
theorem dksX5_terms_1 : cX5_terms.data.toList.drop 23 = dktX5_terms_1 := dk_seg dksX5_terms_0 23 rfl rfl
theorem dksX5_terms_2 : cX5_terms.data.toList.drop 46 = dktX5_terms_2 := dk_seg dksX5_terms_1 23 rfl rfl
theorem dksX5_terms_3 : cX5_terms.data.toList.drop 70 = dktX5_terms_3 := dk_seg dksX5_terms_2 24 rfl rfl
theorem dX5_terms_0 : decode cX5_terms 0 = .ok (.aload_n 0, 1) := dk_42 (dk_at dksX5_terms_0 0 rfl rfl)
theorem dX5_terms_1 : decode cX5_terms 1 = .ok (.iconst 0, 1) := dk_3 (dk_at dksX5_terms_0 1 rfl rfl)
theorem dX5_terms_2 : decode cX5_terms 2 = .ok (.putfield 142, 3) := dk_181 0 142 (dk_at dksX5_terms_0 2 rfl rfl)
theorem dX5_terms_5 : decode cX5_terms 5 = .ok (.iload_n 1, 1) := dk_27 (dk_at dksX5_terms_0 5 rfl rfl)
theorem dX5_terms_6 : decode cX5_terms 6 = .ok (.ifCond .ne 15, 3) := dk_154 0 15 (dk_at dksX5_terms_0 6 rfl rfl)
theorem dX5_terms_9 : decode cX5_terms 9 = .ok (.iload_n 2, 1) := dk_28 (dk_at dksX5_terms_0 9 rfl rfl)
theorem dX5_terms_10 : decode cX5_terms 10 = .ok (.i2l, 1) := dk_133 (dk_at dksX5_terms_0 10 rfl rfl)
theorem dX5_terms_11 : decode cX5_terms 11 = .ok (.lconst 0, 1) := dk_9 (dk_at dksX5_terms_0 11 rfl rfl)
theorem dX5_terms_12 : decode cX5_terms 12 = .ok (.ldc2_w 209, 3) := dk_20 0 209 (dk_at dksX5_terms_0 12 rfl rfl)
theorem dX5_terms_15 : decode cX5_terms 15 = .ok (.invokestatic 162, 3) := dk_184 0 162 (dk_at dksX5_terms_0 15 rfl rfl)
theorem dX5_terms_18 : decode cX5_terms 18 = .ok (.goto 42, 3) := dk_167 0 42 (dk_at dksX5_terms_0 18 rfl rfl)
theorem dX5_terms_21 : decode cX5_terms 21 = .ok (.iload_n 1, 1) := dk_27 (dk_at dksX5_terms_0 21 rfl rfl)
theorem dX5_terms_22 : decode cX5_terms 22 = .ok (.iconst 1, 1) := dk_4 (dk_at dksX5_terms_0 22 rfl rfl)
theorem dX5_terms_23 : decode cX5_terms 23 = .ok (.if_icmp .ne 15, 3) := dk_160 0 15 (dk_at dksX5_terms_1 0 rfl rfl)
theorem dX5_terms_26 : decode cX5_terms 26 = .ok (.iload_n 2, 1) := dk_28 (dk_at dksX5_terms_1 3 rfl rfl)
theorem dX5_terms_27 : decode cX5_terms 27 = .ok (.i2l, 1) := dk_133 (dk_at dksX5_terms_1 4 rfl rfl)
theorem dX5_terms_28 : decode cX5_terms 28 = .ok (.lconst 0, 1) := dk_9 (dk_at dksX5_terms_1 5 rfl rfl)
theorem dX5_terms_29 : decode cX5_terms 29 = .ok (.ldc2_w 168, 3) := dk_20 0 168 (dk_at dksX5_terms_1 6 rfl rfl)
theorem dX5_terms_32 : decode cX5_terms 32 = .ok (.invokestatic 162, 3) := dk_184 0 162 (dk_at dksX5_terms_1 9 rfl rfl)
theorem dX5_terms_35 : decode cX5_terms 35 = .ok (.goto 25, 3) := dk_167 0 25 (dk_at dksX5_terms_1 12 rfl rfl)
theorem dX5_terms_38 : decode cX5_terms 38 = .ok (.iload_n 1, 1) := dk_27 (dk_at dksX5_terms_1 15 rfl rfl)
theorem dX5_terms_39 : decode cX5_terms 39 = .ok (.iconst 2, 1) := dk_5 (dk_at dksX5_terms_1 16 rfl rfl)
theorem dX5_terms_40 : decode cX5_terms 40 = .ok (.if_icmp .ne 19, 3) := dk_160 0 19 (dk_at dksX5_terms_1 17 rfl rfl)
theorem dX5_terms_43 : decode cX5_terms 43 = .ok (.iload_n 2, 1) := dk_28 (dk_at dksX5_terms_1 20 rfl rfl)
theorem dX5_terms_44 : decode cX5_terms 44 = .ok (.i2l, 1) := dk_133 (dk_at dksX5_terms_1 21 rfl rfl)
theorem dX5_terms_45 : decode cX5_terms 45 = .ok (.lconst 0, 1) := dk_9 (dk_at dksX5_terms_1 22 rfl rfl)
theorem dX5_terms_46 : decode cX5_terms 46 = .ok (.ldc2_w 211, 3) := dk_20 0 211 (dk_at dksX5_terms_2 0 rfl rfl)
theorem dX5_terms_49 : decode cX5_terms 49 = .ok (.invokestatic 162, 3) := dk_184 0 162 (dk_at dksX5_terms_2 3 rfl rfl)
theorem dX5_terms_52 : decode cX5_terms 52 = .ok (.ifCond .eq 7, 3) := dk_153 0 7 (dk_at dksX5_terms_2 6 rfl rfl)
theorem dX5_terms_55 : decode cX5_terms 55 = .ok (.iconst 1, 1) := dk_4 (dk_at dksX5_terms_2 9 rfl rfl)
theorem dX5_terms_56 : decode cX5_terms 56 = .ok (.goto 4, 3) := dk_167 0 4 (dk_at dksX5_terms_2 10 rfl rfl)
theorem dX5_terms_59 : decode cX5_terms 59 = .ok (.iconst 0, 1) := dk_3 (dk_at dksX5_terms_2 13 rfl rfl)
theorem dX5_terms_60 : decode cX5_terms 60 = .ok (.istore_n 3, 1) := dk_62 (dk_at dksX5_terms_2 14 rfl rfl)
theorem dX5_terms_61 : decode cX5_terms 61 = .ok (.iload_n 3, 1) := dk_29 (dk_at dksX5_terms_2 15 rfl rfl)
theorem dX5_terms_62 : decode cX5_terms 62 = .ok (.ifCond .ne 9, 3) := dk_154 0 9 (dk_at dksX5_terms_2 16 rfl rfl)
theorem dX5_terms_65 : decode cX5_terms 65 = .ok (.aload_n 0, 1) := dk_42 (dk_at dksX5_terms_2 19 rfl rfl)
theorem dX5_terms_66 : decode cX5_terms 66 = .ok (.iconst (-1), 1) := dk_2 (dk_at dksX5_terms_2 20 rfl rfl)
theorem dX5_terms_67 : decode cX5_terms 67 = .ok (.invokevirtual 155, 3) := dk_182 0 155 (dk_at dksX5_terms_2 21 rfl rfl)
theorem dX5_terms_70 : decode cX5_terms 70 = .ok (.ireturn, 1) := dk_172 (dk_at dksX5_terms_3 0 rfl rfl)
theorem dX5_terms_71 : decode cX5_terms 71 = .ok (.aload_n 0, 1) := dk_42 (dk_at dksX5_terms_3 1 rfl rfl)
theorem dX5_terms_72 : decode cX5_terms 72 = .ok (.iconst 0, 1) := dk_3 (dk_at dksX5_terms_3 2 rfl rfl)
theorem dX5_terms_73 : decode cX5_terms 73 = .ok (.putfield 148, 3) := dk_181 0 148 (dk_at dksX5_terms_3 3 rfl rfl)
theorem dX5_terms_76 : decode cX5_terms 76 = .ok (.aload_n 0, 1) := dk_42 (dk_at dksX5_terms_3 6 rfl rfl)
theorem dX5_terms_77 : decode cX5_terms 77 = .ok (.bipush 6, 2) := dk_16 6 (dk_at dksX5_terms_3 7 rfl rfl)
theorem dX5_terms_79 : decode cX5_terms 79 = .ok (.iload_n 1, 1) := dk_27 (dk_at dksX5_terms_3 9 rfl rfl)
theorem dX5_terms_80 : decode cX5_terms 80 = .ok (.iadd, 1) := dk_96 (dk_at dksX5_terms_3 10 rfl rfl)
theorem dX5_terms_81 : decode cX5_terms 81 = .ok (.iload_n 2, 1) := dk_28 (dk_at dksX5_terms_3 11 rfl rfl)
theorem dX5_terms_82 : decode cX5_terms 82 = .ok (.invokevirtual 206, 3) := dk_182 0 206 (dk_at dksX5_terms_3 12 rfl rfl)
theorem dX5_terms_85 : decode cX5_terms 85 = .ok (.ireturn, 1) := dk_172 (dk_at dksX5_terms_3 15 rfl rfl)
abbrev cX5_row : ByteArray := prog_22_method_27_code
def yX5_row : MethodName := ⟨RX5, "row", "()I"⟩
def dkwX5_row_4 : List UInt8 := [181, 0, 148, 42, 28, 182, 0, 155, 172]
abbrev dktX5_row_4 : List UInt8 := dkwX5_row_4 ++ []
def dkwX5_row_3 : List UInt8 := [132, 2, 1, 167, 0, 13, 42, 89, 180, 0, 216, 4, 96, 181, 0, 216, 132, 3, 2, 167, 255, 204, 42, 3]
abbrev dktX5_row_3 : List UInt8 := dkwX5_row_3 ++ dktX5_row_4
def dkwX5_row_2 : List UInt8 := [162, 0, 30, 42, 42, 180, 0, 35, 29, 46, 42, 180, 0, 35, 29, 4, 96, 46, 182, 0, 191, 155, 0, 9]
abbrev dktX5_row_2 : List UInt8 := dkwX5_row_2 ++ dktX5_row_3
def dkwX5_row_1 : List UInt8 := [182, 0, 155, 172, 42, 3, 181, 0, 216, 3, 61, 3, 62, 29, 27, 162, 0, 53, 29, 4, 96, 27]
abbrev dktX5_row_1 : List UInt8 := dkwX5_row_1 ++ dktX5_row_2
def dkwX5_row_0 : List UInt8 := [42, 3, 181, 0, 142, 42, 180, 0, 213, 60, 42, 3, 181, 0, 213, 27, 154, 0, 10, 42, 16, 250]
abbrev dktX5_row_0 : List UInt8 := dkwX5_row_0 ++ dktX5_row_1
theorem dksX5_row_0 : cX5_row.data.toList.drop 0 = dktX5_row_0 := by decide +kernel
theorem dksX5_row_1 : cX5_row.data.toList.drop 22 = dktX5_row_1 := dk_seg dksX5_row_0 22 rfl rfl
theorem dksX5_row_2 : cX5_row.data.toList.drop 44 = dktX5_row_2 := dk_seg dksX5_row_1 22 rfl rfl
theorem dksX5_row_3 : cX5_row.data.toList.drop 68 = dktX5_row_3 := dk_seg dksX5_row_2 24 rfl rfl
theorem dksX5_row_4 : cX5_row.data.toList.drop 92 = dktX5_row_4 := dk_seg dksX5_row_3 24 rfl rfl
theorem dX5_row_0 : decode cX5_row 0 = .ok (.aload_n 0, 1) := dk_42 (dk_at dksX5_row_0 0 rfl rfl)
theorem dX5_row_1 : decode cX5_row 1 = .ok (.iconst 0, 1) := dk_3 (dk_at dksX5_row_0 1 rfl rfl)
theorem dX5_row_2 : decode cX5_row 2 = .ok (.putfield 142, 3) := dk_181 0 142 (dk_at dksX5_row_0 2 rfl rfl)
theorem dX5_row_5 : decode cX5_row 5 = .ok (.aload_n 0, 1) := dk_42 (dk_at dksX5_row_0 5 rfl rfl)
theorem dX5_row_6 : decode cX5_row 6 = .ok (.getfield 213, 3) := dk_180 0 213 (dk_at dksX5_row_0 6 rfl rfl)
theorem dX5_row_9 : decode cX5_row 9 = .ok (.istore_n 1, 1) := dk_60 (dk_at dksX5_row_0 9 rfl rfl)
theorem dX5_row_10 : decode cX5_row 10 = .ok (.aload_n 0, 1) := dk_42 (dk_at dksX5_row_0 10 rfl rfl)
theorem dX5_row_11 : decode cX5_row 11 = .ok (.iconst 0, 1) := dk_3 (dk_at dksX5_row_0 11 rfl rfl)
theorem dX5_row_12 : decode cX5_row 12 = .ok (.putfield 213, 3) := dk_181 0 213 (dk_at dksX5_row_0 12 rfl rfl)
theorem dX5_row_15 : decode cX5_row 15 = .ok (.iload_n 1, 1) := dk_27 (dk_at dksX5_row_0 15 rfl rfl)
theorem dX5_row_16 : decode cX5_row 16 = .ok (.ifCond .ne 10, 3) := dk_154 0 10 (dk_at dksX5_row_0 16 rfl rfl)
theorem dX5_row_19 : decode cX5_row 19 = .ok (.aload_n 0, 1) := dk_42 (dk_at dksX5_row_0 19 rfl rfl)
theorem dX5_row_20 : decode cX5_row 20 = .ok (.bipush (-6), 2) := dk_16 250 (dk_at dksX5_row_0 20 rfl rfl)
theorem dX5_row_22 : decode cX5_row 22 = .ok (.invokevirtual 155, 3) := dk_182 0 155 (dk_at dksX5_row_1 0 rfl rfl)
theorem dX5_row_25 : decode cX5_row 25 = .ok (.ireturn, 1) := dk_172 (dk_at dksX5_row_1 3 rfl rfl)
theorem dX5_row_26 : decode cX5_row 26 = .ok (.aload_n 0, 1) := dk_42 (dk_at dksX5_row_1 4 rfl rfl)
theorem dX5_row_27 : decode cX5_row 27 = .ok (.iconst 0, 1) := dk_3 (dk_at dksX5_row_1 5 rfl rfl)
theorem dX5_row_28 : decode cX5_row 28 = .ok (.putfield 216, 3) := dk_181 0 216 (dk_at dksX5_row_1 6 rfl rfl)
theorem dX5_row_31 : decode cX5_row 31 = .ok (.iconst 0, 1) := dk_3 (dk_at dksX5_row_1 9 rfl rfl)
theorem dX5_row_32 : decode cX5_row 32 = .ok (.istore_n 2, 1) := dk_61 (dk_at dksX5_row_1 10 rfl rfl)
theorem dX5_row_33 : decode cX5_row 33 = .ok (.iconst 0, 1) := dk_3 (dk_at dksX5_row_1 11 rfl rfl)
theorem dX5_row_34 : decode cX5_row 34 = .ok (.istore_n 3, 1) := dk_62 (dk_at dksX5_row_1 12 rfl rfl)
theorem dX5_row_35 : decode cX5_row 35 = .ok (.iload_n 3, 1) := dk_29 (dk_at dksX5_row_1 13 rfl rfl)
theorem dX5_row_36 : decode cX5_row 36 = .ok (.iload_n 1, 1) := dk_27 (dk_at dksX5_row_1 14 rfl rfl)
theorem dX5_row_37 : decode cX5_row 37 = .ok (.if_icmp .ge 53, 3) := dk_162 0 53 (dk_at dksX5_row_1 15 rfl rfl)
theorem dX5_row_40 : decode cX5_row 40 = .ok (.iload_n 3, 1) := dk_29 (dk_at dksX5_row_1 18 rfl rfl)
theorem dX5_row_41 : decode cX5_row 41 = .ok (.iconst 1, 1) := dk_4 (dk_at dksX5_row_1 19 rfl rfl)
theorem dX5_row_42 : decode cX5_row 42 = .ok (.iadd, 1) := dk_96 (dk_at dksX5_row_1 20 rfl rfl)
theorem dX5_row_43 : decode cX5_row 43 = .ok (.iload_n 1, 1) := dk_27 (dk_at dksX5_row_1 21 rfl rfl)
theorem dX5_row_44 : decode cX5_row 44 = .ok (.if_icmp .ge 30, 3) := dk_162 0 30 (dk_at dksX5_row_2 0 rfl rfl)
theorem dX5_row_47 : decode cX5_row 47 = .ok (.aload_n 0, 1) := dk_42 (dk_at dksX5_row_2 3 rfl rfl)
theorem dX5_row_48 : decode cX5_row 48 = .ok (.aload_n 0, 1) := dk_42 (dk_at dksX5_row_2 4 rfl rfl)
theorem dX5_row_49 : decode cX5_row 49 = .ok (.getfield 35, 3) := dk_180 0 35 (dk_at dksX5_row_2 5 rfl rfl)
theorem dX5_row_52 : decode cX5_row 52 = .ok (.iload_n 3, 1) := dk_29 (dk_at dksX5_row_2 8 rfl rfl)
theorem dX5_row_53 : decode cX5_row 53 = .ok (.iaload, 1) := dk_46 (dk_at dksX5_row_2 9 rfl rfl)
theorem dX5_row_54 : decode cX5_row 54 = .ok (.aload_n 0, 1) := dk_42 (dk_at dksX5_row_2 10 rfl rfl)
theorem dX5_row_55 : decode cX5_row 55 = .ok (.getfield 35, 3) := dk_180 0 35 (dk_at dksX5_row_2 11 rfl rfl)
theorem dX5_row_58 : decode cX5_row 58 = .ok (.iload_n 3, 1) := dk_29 (dk_at dksX5_row_2 14 rfl rfl)
theorem dX5_row_59 : decode cX5_row 59 = .ok (.iconst 1, 1) := dk_4 (dk_at dksX5_row_2 15 rfl rfl)
theorem dX5_row_60 : decode cX5_row 60 = .ok (.iadd, 1) := dk_96 (dk_at dksX5_row_2 16 rfl rfl)
theorem dX5_row_61 : decode cX5_row 61 = .ok (.iaload, 1) := dk_46 (dk_at dksX5_row_2 17 rfl rfl)
theorem dX5_row_62 : decode cX5_row 62 = .ok (.invokevirtual 191, 3) := dk_182 0 191 (dk_at dksX5_row_2 18 rfl rfl)
theorem dX5_row_65 : decode cX5_row 65 = .ok (.ifCond .lt 9, 3) := dk_155 0 9 (dk_at dksX5_row_2 21 rfl rfl)
theorem dX5_row_68 : decode cX5_row 68 = .ok (.iinc 2 1, 3) := dk_132 2 1 (dk_at dksX5_row_3 0 rfl rfl)
theorem dX5_row_71 : decode cX5_row 71 = .ok (.goto 13, 3) := dk_167 0 13 (dk_at dksX5_row_3 3 rfl rfl)
theorem dX5_row_74 : decode cX5_row 74 = .ok (.aload_n 0, 1) := dk_42 (dk_at dksX5_row_3 6 rfl rfl)
theorem dX5_row_75 : decode cX5_row 75 = .ok (.dup, 1) := dk_89 (dk_at dksX5_row_3 7 rfl rfl)
theorem dX5_row_76 : decode cX5_row 76 = .ok (.getfield 216, 3) := dk_180 0 216 (dk_at dksX5_row_3 8 rfl rfl)
theorem dX5_row_79 : decode cX5_row 79 = .ok (.iconst 1, 1) := dk_4 (dk_at dksX5_row_3 11 rfl rfl)
theorem dX5_row_80 : decode cX5_row 80 = .ok (.iadd, 1) := dk_96 (dk_at dksX5_row_3 12 rfl rfl)
theorem dX5_row_81 : decode cX5_row 81 = .ok (.putfield 216, 3) := dk_181 0 216 (dk_at dksX5_row_3 13 rfl rfl)
theorem dX5_row_84 : decode cX5_row 84 = .ok (.iinc 3 2, 3) := dk_132 3 2 (dk_at dksX5_row_3 16 rfl rfl)
theorem dX5_row_87 : decode cX5_row 87 = .ok (.goto (-52), 3) := dk_167 255 204 (dk_at dksX5_row_3 19 rfl rfl)
theorem dX5_row_90 : decode cX5_row 90 = .ok (.aload_n 0, 1) := dk_42 (dk_at dksX5_row_3 22 rfl rfl)
theorem dX5_row_91 : decode cX5_row 91 = .ok (.iconst 0, 1) := dk_3 (dk_at dksX5_row_3 23 rfl rfl)
theorem dX5_row_92 : decode cX5_row 92 = .ok (.putfield 148, 3) := dk_181 0 148 (dk_at dksX5_row_4 0 rfl rfl)
theorem dX5_row_95 : decode cX5_row 95 = .ok (.aload_n 0, 1) := dk_42 (dk_at dksX5_row_4 3 rfl rfl)
theorem dX5_row_96 : decode cX5_row 96 = .ok (.iload_n 2, 1) := dk_28 (dk_at dksX5_row_4 4 rfl rfl)
theorem dX5_row_97 : decode cX5_row 97 = .ok (.invokevirtual 155, 3) := dk_182 0 155 (dk_at dksX5_row_4 5 rfl rfl)
theorem dX5_row_100 : decode cX5_row 100 = .ok (.ireturn, 1) := dk_172 (dk_at dksX5_row_4 8 rfl rfl)
abbrev cX5_brooms : ByteArray := prog_22_method_28_code
def yX5_brooms : MethodName := ⟨RX5, "brooms", "()I"⟩
def dkwX5_brooms_0 : List UInt8 := [42, 3, 181, 0, 142, 42, 180, 0, 216, 172]
abbrev dktX5_brooms_0 : List UInt8 := dkwX5_brooms_0 ++ []
theorem dksX5_brooms_0 : cX5_brooms.data.toList.drop 0 = dktX5_brooms_0 := by decide +kernel
theorem dX5_brooms_0 : decode cX5_brooms 0 = .ok (.aload_n 0, 1) := dk_42 (dk_at dksX5_brooms_0 0 rfl rfl)
theorem dX5_brooms_1 : decode cX5_brooms 1 = .ok (.iconst 0, 1) := dk_3 (dk_at dksX5_brooms_0 1 rfl rfl)
theorem dX5_brooms_2 : decode cX5_brooms 2 = .ok (.putfield 142, 3) := dk_181 0 142 (dk_at dksX5_brooms_0 2 rfl rfl)
theorem dX5_brooms_5 : decode cX5_brooms 5 = .ok (.aload_n 0, 1) := dk_42 (dk_at dksX5_brooms_0 5 rfl rfl)
theorem dX5_brooms_6 : decode cX5_brooms 6 = .ok (.getfield 216, 3) := dk_180 0 216 (dk_at dksX5_brooms_0 6 rfl rfl)
theorem dX5_brooms_9 : decode cX5_brooms 9 = .ok (.ireturn, 1) := dk_172 (dk_at dksX5_brooms_0 9 rfl rfl)
abbrev cX5_feed : ByteArray := prog_22_method_30_code
def yX5_feed : MethodName := ⟨RX5, "feed", "(IIIII)I"⟩
def dkwX5_feed_2 : List UInt8 := [182, 0, 219, 42, 180, 0, 213, 172]
abbrev dktX5_feed_2 : List UInt8 := dkwX5_feed_2 ++ []
def dkwX5_feed_1 : List UInt8 := [182, 0, 219, 42, 28, 182, 0, 219, 42, 29, 182, 0, 219, 42, 21, 4, 182, 0, 219, 42, 21, 5]
abbrev dktX5_feed_1 : List UInt8 := dkwX5_feed_1 ++ dktX5_feed_2
def dkwX5_feed_0 : List UInt8 := [42, 3, 181, 0, 142, 42, 180, 0, 213, 16, 20, 96, 17, 1, 144, 164, 0, 5, 2, 172, 42, 27]
abbrev dktX5_feed_0 : List UInt8 := dkwX5_feed_0 ++ dktX5_feed_1
theorem dksX5_feed_0 : cX5_feed.data.toList.drop 0 = dktX5_feed_0 := by decide +kernel
theorem dksX5_feed_1 : cX5_feed.data.toList.drop 22 = dktX5_feed_1 := dk_seg dksX5_feed_0 22 rfl rfl
theorem dksX5_feed_2 : cX5_feed.data.toList.drop 44 = dktX5_feed_2 := dk_seg dksX5_feed_1 22 rfl rfl
theorem dX5_feed_0 : decode cX5_feed 0 = .ok (.aload_n 0, 1) := dk_42 (dk_at dksX5_feed_0 0 rfl rfl)
theorem dX5_feed_1 : decode cX5_feed 1 = .ok (.iconst 0, 1) := dk_3 (dk_at dksX5_feed_0 1 rfl rfl)
theorem dX5_feed_2 : decode cX5_feed 2 = .ok (.putfield 142, 3) := dk_181 0 142 (dk_at dksX5_feed_0 2 rfl rfl)
theorem dX5_feed_5 : decode cX5_feed 5 = .ok (.aload_n 0, 1) := dk_42 (dk_at dksX5_feed_0 5 rfl rfl)
theorem dX5_feed_6 : decode cX5_feed 6 = .ok (.getfield 213, 3) := dk_180 0 213 (dk_at dksX5_feed_0 6 rfl rfl)
theorem dX5_feed_9 : decode cX5_feed 9 = .ok (.bipush 20, 2) := dk_16 20 (dk_at dksX5_feed_0 9 rfl rfl)
theorem dX5_feed_11 : decode cX5_feed 11 = .ok (.iadd, 1) := dk_96 (dk_at dksX5_feed_0 11 rfl rfl)
theorem dX5_feed_12 : decode cX5_feed 12 = .ok (.sipush 400, 3) := dk_17 1 144 (dk_at dksX5_feed_0 12 rfl rfl)
theorem dX5_feed_15 : decode cX5_feed 15 = .ok (.if_icmp .le 5, 3) := dk_164 0 5 (dk_at dksX5_feed_0 15 rfl rfl)
theorem dX5_feed_18 : decode cX5_feed 18 = .ok (.iconst (-1), 1) := dk_2 (dk_at dksX5_feed_0 18 rfl rfl)
theorem dX5_feed_19 : decode cX5_feed 19 = .ok (.ireturn, 1) := dk_172 (dk_at dksX5_feed_0 19 rfl rfl)
theorem dX5_feed_20 : decode cX5_feed 20 = .ok (.aload_n 0, 1) := dk_42 (dk_at dksX5_feed_0 20 rfl rfl)
theorem dX5_feed_21 : decode cX5_feed 21 = .ok (.iload_n 1, 1) := dk_27 (dk_at dksX5_feed_0 21 rfl rfl)
theorem dX5_feed_22 : decode cX5_feed 22 = .ok (.invokevirtual 219, 3) := dk_182 0 219 (dk_at dksX5_feed_1 0 rfl rfl)
theorem dX5_feed_25 : decode cX5_feed 25 = .ok (.aload_n 0, 1) := dk_42 (dk_at dksX5_feed_1 3 rfl rfl)
theorem dX5_feed_26 : decode cX5_feed 26 = .ok (.iload_n 2, 1) := dk_28 (dk_at dksX5_feed_1 4 rfl rfl)
theorem dX5_feed_27 : decode cX5_feed 27 = .ok (.invokevirtual 219, 3) := dk_182 0 219 (dk_at dksX5_feed_1 5 rfl rfl)
theorem dX5_feed_30 : decode cX5_feed 30 = .ok (.aload_n 0, 1) := dk_42 (dk_at dksX5_feed_1 8 rfl rfl)
theorem dX5_feed_31 : decode cX5_feed 31 = .ok (.iload_n 3, 1) := dk_29 (dk_at dksX5_feed_1 9 rfl rfl)
theorem dX5_feed_32 : decode cX5_feed 32 = .ok (.invokevirtual 219, 3) := dk_182 0 219 (dk_at dksX5_feed_1 10 rfl rfl)
theorem dX5_feed_35 : decode cX5_feed 35 = .ok (.aload_n 0, 1) := dk_42 (dk_at dksX5_feed_1 13 rfl rfl)
theorem dX5_feed_36 : decode cX5_feed 36 = .ok (.iload 4, 2) := dk_21 4 (dk_at dksX5_feed_1 14 rfl rfl)
theorem dX5_feed_38 : decode cX5_feed 38 = .ok (.invokevirtual 219, 3) := dk_182 0 219 (dk_at dksX5_feed_1 16 rfl rfl)
theorem dX5_feed_41 : decode cX5_feed 41 = .ok (.aload_n 0, 1) := dk_42 (dk_at dksX5_feed_1 19 rfl rfl)
theorem dX5_feed_42 : decode cX5_feed 42 = .ok (.iload 5, 2) := dk_21 5 (dk_at dksX5_feed_1 20 rfl rfl)
theorem dX5_feed_44 : decode cX5_feed 44 = .ok (.invokevirtual 219, 3) := dk_182 0 219 (dk_at dksX5_feed_2 0 rfl rfl)
theorem dX5_feed_47 : decode cX5_feed 47 = .ok (.aload_n 0, 1) := dk_42 (dk_at dksX5_feed_2 3 rfl rfl)
theorem dX5_feed_48 : decode cX5_feed 48 = .ok (.getfield 213, 3) := dk_180 0 213 (dk_at dksX5_feed_2 4 rfl rfl)
theorem dX5_feed_51 : decode cX5_feed 51 = .ok (.ireturn, 1) := dk_172 (dk_at dksX5_feed_2 7 rfl rfl)
abbrev cX5_four : ByteArray := prog_22_method_29_code
def yX5_four : MethodName := ⟨RX5, "four", "(I)V"⟩
def dkwX5_four_1 : List UInt8 := [89, 180, 0, 213, 4, 96, 181, 0, 213, 132, 2, 248, 167, 255, 223, 177]
abbrev dktX5_four_1 : List UInt8 := dkwX5_four_1 ++ []
def dkwX5_four_0 : List UInt8 := [16, 24, 61, 28, 155, 0, 35, 42, 180, 0, 35, 42, 180, 0, 213, 27, 28, 122, 17, 0, 255, 126, 79, 42]
abbrev dktX5_four_0 : List UInt8 := dkwX5_four_0 ++ dktX5_four_1
theorem dksX5_four_0 : cX5_four.data.toList.drop 0 = dktX5_four_0 := by decide +kernel
theorem dksX5_four_1 : cX5_four.data.toList.drop 24 = dktX5_four_1 := dk_seg dksX5_four_0 24 rfl rfl
theorem dX5_four_0 : decode cX5_four 0 = .ok (.bipush 24, 2) := dk_16 24 (dk_at dksX5_four_0 0 rfl rfl)
theorem dX5_four_2 : decode cX5_four 2 = .ok (.istore_n 2, 1) := dk_61 (dk_at dksX5_four_0 2 rfl rfl)
theorem dX5_four_3 : decode cX5_four 3 = .ok (.iload_n 2, 1) := dk_28 (dk_at dksX5_four_0 3 rfl rfl)
theorem dX5_four_4 : decode cX5_four 4 = .ok (.ifCond .lt 35, 3) := dk_155 0 35 (dk_at dksX5_four_0 4 rfl rfl)
theorem dX5_four_7 : decode cX5_four 7 = .ok (.aload_n 0, 1) := dk_42 (dk_at dksX5_four_0 7 rfl rfl)
theorem dX5_four_8 : decode cX5_four 8 = .ok (.getfield 35, 3) := dk_180 0 35 (dk_at dksX5_four_0 8 rfl rfl)
theorem dX5_four_11 : decode cX5_four 11 = .ok (.aload_n 0, 1) := dk_42 (dk_at dksX5_four_0 11 rfl rfl)
theorem dX5_four_12 : decode cX5_four 12 = .ok (.getfield 213, 3) := dk_180 0 213 (dk_at dksX5_four_0 12 rfl rfl)
theorem dX5_four_15 : decode cX5_four 15 = .ok (.iload_n 1, 1) := dk_27 (dk_at dksX5_four_0 15 rfl rfl)
theorem dX5_four_16 : decode cX5_four 16 = .ok (.iload_n 2, 1) := dk_28 (dk_at dksX5_four_0 16 rfl rfl)
theorem dX5_four_17 : decode cX5_four 17 = .ok (.ishr, 1) := dk_122 (dk_at dksX5_four_0 17 rfl rfl)
theorem dX5_four_18 : decode cX5_four 18 = .ok (.sipush 255, 3) := dk_17 0 255 (dk_at dksX5_four_0 18 rfl rfl)
theorem dX5_four_21 : decode cX5_four 21 = .ok (.iand, 1) := dk_126 (dk_at dksX5_four_0 21 rfl rfl)
theorem dX5_four_22 : decode cX5_four 22 = .ok (.iastore, 1) := dk_79 (dk_at dksX5_four_0 22 rfl rfl)
theorem dX5_four_23 : decode cX5_four 23 = .ok (.aload_n 0, 1) := dk_42 (dk_at dksX5_four_0 23 rfl rfl)
theorem dX5_four_24 : decode cX5_four 24 = .ok (.dup, 1) := dk_89 (dk_at dksX5_four_1 0 rfl rfl)
theorem dX5_four_25 : decode cX5_four 25 = .ok (.getfield 213, 3) := dk_180 0 213 (dk_at dksX5_four_1 1 rfl rfl)
theorem dX5_four_28 : decode cX5_four 28 = .ok (.iconst 1, 1) := dk_4 (dk_at dksX5_four_1 4 rfl rfl)
theorem dX5_four_29 : decode cX5_four 29 = .ok (.iadd, 1) := dk_96 (dk_at dksX5_four_1 5 rfl rfl)
theorem dX5_four_30 : decode cX5_four 30 = .ok (.putfield 213, 3) := dk_181 0 213 (dk_at dksX5_four_1 6 rfl rfl)
theorem dX5_four_33 : decode cX5_four 33 = .ok (.iinc 2 (-8), 3) := dk_132 2 248 (dk_at dksX5_four_1 9 rfl rfl)
theorem dX5_four_36 : decode cX5_four 36 = .ok (.goto (-33), 3) := dk_167 255 223 (dk_at dksX5_four_1 12 rfl rfl)
theorem dX5_four_39 : decode cX5_four 39 = .ok (.return_, 1) := dk_177 (dk_at dksX5_four_1 15 rfl rfl)
abbrev cX5_end : ByteArray := prog_22_method_31_code
def yX5_end : MethodName := ⟨RX5, "end", "(I)I"⟩
def dkwX5_end_1 : List UInt8 := [27, 172]
abbrev dktX5_end_1 : List UInt8 := dkwX5_end_1 ++ []
def dkwX5_end_0 : List UInt8 := [42, 3, 181, 0, 142, 27, 155, 0, 11, 27, 42, 180, 0, 213, 164, 0, 5, 2, 172, 42, 27, 181, 0, 213]
abbrev dktX5_end_0 : List UInt8 := dkwX5_end_0 ++ dktX5_end_1
theorem dksX5_end_0 : cX5_end.data.toList.drop 0 = dktX5_end_0 := by decide +kernel
theorem dksX5_end_1 : cX5_end.data.toList.drop 24 = dktX5_end_1 := dk_seg dksX5_end_0 24 rfl rfl
theorem dX5_end_0 : decode cX5_end 0 = .ok (.aload_n 0, 1) := dk_42 (dk_at dksX5_end_0 0 rfl rfl)
theorem dX5_end_1 : decode cX5_end 1 = .ok (.iconst 0, 1) := dk_3 (dk_at dksX5_end_0 1 rfl rfl)
theorem dX5_end_2 : decode cX5_end 2 = .ok (.putfield 142, 3) := dk_181 0 142 (dk_at dksX5_end_0 2 rfl rfl)
theorem dX5_end_5 : decode cX5_end 5 = .ok (.iload_n 1, 1) := dk_27 (dk_at dksX5_end_0 5 rfl rfl)
theorem dX5_end_6 : decode cX5_end 6 = .ok (.ifCond .lt 11, 3) := dk_155 0 11 (dk_at dksX5_end_0 6 rfl rfl)
theorem dX5_end_9 : decode cX5_end 9 = .ok (.iload_n 1, 1) := dk_27 (dk_at dksX5_end_0 9 rfl rfl)
theorem dX5_end_10 : decode cX5_end 10 = .ok (.aload_n 0, 1) := dk_42 (dk_at dksX5_end_0 10 rfl rfl)
theorem dX5_end_11 : decode cX5_end 11 = .ok (.getfield 213, 3) := dk_180 0 213 (dk_at dksX5_end_0 11 rfl rfl)
theorem dX5_end_14 : decode cX5_end 14 = .ok (.if_icmp .le 5, 3) := dk_164 0 5 (dk_at dksX5_end_0 14 rfl rfl)
theorem dX5_end_17 : decode cX5_end 17 = .ok (.iconst (-1), 1) := dk_2 (dk_at dksX5_end_0 17 rfl rfl)
theorem dX5_end_18 : decode cX5_end 18 = .ok (.ireturn, 1) := dk_172 (dk_at dksX5_end_0 18 rfl rfl)
theorem dX5_end_19 : decode cX5_end 19 = .ok (.aload_n 0, 1) := dk_42 (dk_at dksX5_end_0 19 rfl rfl)
theorem dX5_end_20 : decode cX5_end 20 = .ok (.iload_n 1, 1) := dk_27 (dk_at dksX5_end_0 20 rfl rfl)
theorem dX5_end_21 : decode cX5_end 21 = .ok (.putfield 213, 3) := dk_181 0 213 (dk_at dksX5_end_0 21 rfl rfl)
theorem dX5_end_24 : decode cX5_end 24 = .ok (.iload_n 1, 1) := dk_27 (dk_at dksX5_end_1 0 rfl rfl)
theorem dX5_end_25 : decode cX5_end 25 = .ok (.ireturn, 1) := dk_172 (dk_at dksX5_end_1 1 rfl rfl)
abbrev cX5_fault : ByteArray := prog_22_method_40_code
def yX5_fault : MethodName := ⟨RX5, "fault", "()I"⟩
def dkwX5_fault_0 : List UInt8 := [42, 3, 181, 0, 142, 42, 180, 0, 38, 172]
abbrev dktX5_fault_0 : List UInt8 := dkwX5_fault_0 ++ []
theorem dksX5_fault_0 : cX5_fault.data.toList.drop 0 = dktX5_fault_0 := by decide +kernel
theorem dX5_fault_0 : decode cX5_fault 0 = .ok (.aload_n 0, 1) := dk_42 (dk_at dksX5_fault_0 0 rfl rfl)
theorem dX5_fault_1 : decode cX5_fault 1 = .ok (.iconst 0, 1) := dk_3 (dk_at dksX5_fault_0 1 rfl rfl)
theorem dX5_fault_2 : decode cX5_fault 2 = .ok (.putfield 142, 3) := dk_181 0 142 (dk_at dksX5_fault_0 2 rfl rfl)
theorem dX5_fault_5 : decode cX5_fault 5 = .ok (.aload_n 0, 1) := dk_42 (dk_at dksX5_fault_0 5 rfl rfl)
theorem dX5_fault_6 : decode cX5_fault 6 = .ok (.getfield 38, 3) := dk_180 0 38 (dk_at dksX5_fault_0 6 rfl rfl)
theorem dX5_fault_9 : decode cX5_fault 9 = .ok (.ireturn, 1) := dk_172 (dk_at dksX5_fault_0 9 rfl rfl)
abbrev cX5_law : ByteArray := prog_22_method_59_code
def yX5_law : MethodName := ⟨RX5, "law", "()I"⟩
def dkwX5_law_9 : List UInt8 := [42, 42, 180, 0, 13, 7, 46, 4, 100, 182, 0, 155, 172]
abbrev dktX5_law_9 : List UInt8 := dkwX5_law_9 ++ []
def dkwX5_law_8 : List UInt8 := [96, 42, 180, 0, 48, 28, 46, 79, 132, 2, 1, 167, 255, 205, 42, 180, 0, 13, 7, 92, 46, 4, 96, 79]
abbrev dktX5_law_8 : List UInt8 := dkwX5_law_8 ++ dktX5_law_9
def dkwX5_law_7 : List UInt8 := [5, 28, 104, 96, 42, 180, 0, 45, 28, 46, 79, 42, 180, 0, 13, 27, 16, 98, 96, 5, 28, 104, 96, 4]
abbrev dktX5_law_7 : List UInt8 := dkwX5_law_7 ++ dktX5_law_8
def dkwX5_law_6 : List UInt8 := [132, 2, 1, 167, 255, 226, 3, 61, 28, 42, 180, 1, 4, 162, 0, 49, 42, 180, 0, 13, 27, 16, 98, 96]
abbrev dktX5_law_6 : List UInt8 := dkwX5_law_6 ++ dktX5_law_7
def dkwX5_law_5 : List UInt8 := [180, 1, 94, 104, 162, 0, 25, 42, 180, 0, 13, 27, 5, 96, 28, 96, 42, 180, 0, 42, 28, 46, 79]
abbrev dktX5_law_5 : List UInt8 := dkwX5_law_5 ++ dktX5_law_6
def dkwX5_law_4 : List UInt8 := [46, 104, 96, 60, 42, 180, 0, 13, 27, 4, 96, 42, 180, 1, 94, 79, 3, 61, 28, 16, 8, 42]
abbrev dktX5_law_4 : List UInt8 := dkwX5_law_4 ++ dktX5_law_5
def dkwX5_law_3 : List UInt8 := [180, 0, 225, 153, 0, 10, 42, 16, 250, 182, 0, 155, 172, 17, 0, 150, 17, 3, 132, 42, 180, 0, 13, 7]
abbrev dktX5_law_3 : List UInt8 := dkwX5_law_3 ++ dktX5_law_4
def dkwX5_law_2 : List UInt8 := [182, 1, 38, 153, 0, 14, 42, 182, 0, 229, 42, 182, 1, 105, 167, 255, 232, 42, 182, 1, 108, 42]
abbrev dktX5_law_2 : List UInt8 := dkwX5_law_2 ++ dktX5_law_3
def dkwX5_law_1 : List UInt8 := [182, 0, 155, 172, 42, 3, 182, 1, 102, 42, 182, 1, 105, 42, 180, 0, 225, 154, 0, 23, 42, 16, 59]
abbrev dktX5_law_1 : List UInt8 := dkwX5_law_1 ++ dktX5_law_2
def dkwX5_law_0 : List UInt8 := [42, 3, 181, 0, 142, 42, 180, 0, 13, 7, 46, 16, 6, 160, 0, 15, 42, 3, 181, 0, 213, 42, 16, 251]
abbrev dktX5_law_0 : List UInt8 := dkwX5_law_0 ++ dktX5_law_1
theorem dksX5_law_0 : cX5_law.data.toList.drop 0 = dktX5_law_0 := by decide +kernel
theorem dksX5_law_1 : cX5_law.data.toList.drop 24 = dktX5_law_1 := dk_seg dksX5_law_0 24 rfl rfl
theorem dksX5_law_2 : cX5_law.data.toList.drop 47 = dktX5_law_2 := dk_seg dksX5_law_1 23 rfl rfl
theorem dksX5_law_3 : cX5_law.data.toList.drop 69 = dktX5_law_3 := dk_seg dksX5_law_2 22 rfl rfl
theorem dksX5_law_4 : cX5_law.data.toList.drop 93 = dktX5_law_4 := dk_seg dksX5_law_3 24 rfl rfl
theorem dksX5_law_5 : cX5_law.data.toList.drop 115 = dktX5_law_5 := dk_seg dksX5_law_4 22 rfl rfl
theorem dksX5_law_6 : cX5_law.data.toList.drop 138 = dktX5_law_6 := dk_seg dksX5_law_5 23 rfl rfl
theorem dksX5_law_7 : cX5_law.data.toList.drop 162 = dktX5_law_7 := dk_seg dksX5_law_6 24 rfl rfl
theorem dksX5_law_8 : cX5_law.data.toList.drop 186 = dktX5_law_8 := dk_seg dksX5_law_7 24 rfl rfl
theorem dksX5_law_9 : cX5_law.data.toList.drop 210 = dktX5_law_9 := dk_seg dksX5_law_8 24 rfl rfl
theorem dX5_law_0 : decode cX5_law 0 = .ok (.aload_n 0, 1) := dk_42 (dk_at dksX5_law_0 0 rfl rfl)
theorem dX5_law_1 : decode cX5_law 1 = .ok (.iconst 0, 1) := dk_3 (dk_at dksX5_law_0 1 rfl rfl)
theorem dX5_law_2 : decode cX5_law 2 = .ok (.putfield 142, 3) := dk_181 0 142 (dk_at dksX5_law_0 2 rfl rfl)
theorem dX5_law_5 : decode cX5_law 5 = .ok (.aload_n 0, 1) := dk_42 (dk_at dksX5_law_0 5 rfl rfl)
theorem dX5_law_6 : decode cX5_law 6 = .ok (.getfield 13, 3) := dk_180 0 13 (dk_at dksX5_law_0 6 rfl rfl)
theorem dX5_law_9 : decode cX5_law 9 = .ok (.iconst 4, 1) := dk_7 (dk_at dksX5_law_0 9 rfl rfl)
theorem dX5_law_10 : decode cX5_law 10 = .ok (.iaload, 1) := dk_46 (dk_at dksX5_law_0 10 rfl rfl)
theorem dX5_law_11 : decode cX5_law 11 = .ok (.bipush 6, 2) := dk_16 6 (dk_at dksX5_law_0 11 rfl rfl)
theorem dX5_law_13 : decode cX5_law 13 = .ok (.if_icmp .ne 15, 3) := dk_160 0 15 (dk_at dksX5_law_0 13 rfl rfl)
theorem dX5_law_16 : decode cX5_law 16 = .ok (.aload_n 0, 1) := dk_42 (dk_at dksX5_law_0 16 rfl rfl)
theorem dX5_law_17 : decode cX5_law 17 = .ok (.iconst 0, 1) := dk_3 (dk_at dksX5_law_0 17 rfl rfl)
theorem dX5_law_18 : decode cX5_law 18 = .ok (.putfield 213, 3) := dk_181 0 213 (dk_at dksX5_law_0 18 rfl rfl)
theorem dX5_law_21 : decode cX5_law 21 = .ok (.aload_n 0, 1) := dk_42 (dk_at dksX5_law_0 21 rfl rfl)
theorem dX5_law_22 : decode cX5_law 22 = .ok (.bipush (-5), 2) := dk_16 251 (dk_at dksX5_law_0 22 rfl rfl)
theorem dX5_law_24 : decode cX5_law 24 = .ok (.invokevirtual 155, 3) := dk_182 0 155 (dk_at dksX5_law_1 0 rfl rfl)
theorem dX5_law_27 : decode cX5_law 27 = .ok (.ireturn, 1) := dk_172 (dk_at dksX5_law_1 3 rfl rfl)
theorem dX5_law_28 : decode cX5_law 28 = .ok (.aload_n 0, 1) := dk_42 (dk_at dksX5_law_1 4 rfl rfl)
theorem dX5_law_29 : decode cX5_law 29 = .ok (.iconst 0, 1) := dk_3 (dk_at dksX5_law_1 5 rfl rfl)
theorem dX5_law_30 : decode cX5_law 30 = .ok (.invokevirtual 358, 3) := dk_182 1 102 (dk_at dksX5_law_1 6 rfl rfl)
theorem dX5_law_33 : decode cX5_law 33 = .ok (.aload_n 0, 1) := dk_42 (dk_at dksX5_law_1 9 rfl rfl)
theorem dX5_law_34 : decode cX5_law 34 = .ok (.invokevirtual 361, 3) := dk_182 1 105 (dk_at dksX5_law_1 10 rfl rfl)
theorem dX5_law_37 : decode cX5_law 37 = .ok (.aload_n 0, 1) := dk_42 (dk_at dksX5_law_1 13 rfl rfl)
theorem dX5_law_38 : decode cX5_law 38 = .ok (.getfield 225, 3) := dk_180 0 225 (dk_at dksX5_law_1 14 rfl rfl)
theorem dX5_law_41 : decode cX5_law 41 = .ok (.ifCond .ne 23, 3) := dk_154 0 23 (dk_at dksX5_law_1 17 rfl rfl)
theorem dX5_law_44 : decode cX5_law 44 = .ok (.aload_n 0, 1) := dk_42 (dk_at dksX5_law_1 20 rfl rfl)
theorem dX5_law_45 : decode cX5_law 45 = .ok (.bipush 59, 2) := dk_16 59 (dk_at dksX5_law_1 21 rfl rfl)
theorem dX5_law_47 : decode cX5_law 47 = .ok (.invokevirtual 294, 3) := dk_182 1 38 (dk_at dksX5_law_2 0 rfl rfl)
theorem dX5_law_50 : decode cX5_law 50 = .ok (.ifCond .eq 14, 3) := dk_153 0 14 (dk_at dksX5_law_2 3 rfl rfl)
theorem dX5_law_53 : decode cX5_law 53 = .ok (.aload_n 0, 1) := dk_42 (dk_at dksX5_law_2 6 rfl rfl)
theorem dX5_law_54 : decode cX5_law 54 = .ok (.invokevirtual 229, 3) := dk_182 0 229 (dk_at dksX5_law_2 7 rfl rfl)
theorem dX5_law_57 : decode cX5_law 57 = .ok (.aload_n 0, 1) := dk_42 (dk_at dksX5_law_2 10 rfl rfl)
theorem dX5_law_58 : decode cX5_law 58 = .ok (.invokevirtual 361, 3) := dk_182 1 105 (dk_at dksX5_law_2 11 rfl rfl)
theorem dX5_law_61 : decode cX5_law 61 = .ok (.goto (-24), 3) := dk_167 255 232 (dk_at dksX5_law_2 14 rfl rfl)
theorem dX5_law_64 : decode cX5_law 64 = .ok (.aload_n 0, 1) := dk_42 (dk_at dksX5_law_2 17 rfl rfl)
theorem dX5_law_65 : decode cX5_law 65 = .ok (.invokevirtual 364, 3) := dk_182 1 108 (dk_at dksX5_law_2 18 rfl rfl)
theorem dX5_law_68 : decode cX5_law 68 = .ok (.aload_n 0, 1) := dk_42 (dk_at dksX5_law_2 21 rfl rfl)
theorem dX5_law_69 : decode cX5_law 69 = .ok (.getfield 225, 3) := dk_180 0 225 (dk_at dksX5_law_3 0 rfl rfl)
theorem dX5_law_72 : decode cX5_law 72 = .ok (.ifCond .eq 10, 3) := dk_153 0 10 (dk_at dksX5_law_3 3 rfl rfl)
theorem dX5_law_75 : decode cX5_law 75 = .ok (.aload_n 0, 1) := dk_42 (dk_at dksX5_law_3 6 rfl rfl)
theorem dX5_law_76 : decode cX5_law 76 = .ok (.bipush (-6), 2) := dk_16 250 (dk_at dksX5_law_3 7 rfl rfl)
theorem dX5_law_78 : decode cX5_law 78 = .ok (.invokevirtual 155, 3) := dk_182 0 155 (dk_at dksX5_law_3 9 rfl rfl)
theorem dX5_law_81 : decode cX5_law 81 = .ok (.ireturn, 1) := dk_172 (dk_at dksX5_law_3 12 rfl rfl)
theorem dX5_law_82 : decode cX5_law 82 = .ok (.sipush 150, 3) := dk_17 0 150 (dk_at dksX5_law_3 13 rfl rfl)
theorem dX5_law_85 : decode cX5_law 85 = .ok (.sipush 900, 3) := dk_17 3 132 (dk_at dksX5_law_3 16 rfl rfl)
theorem dX5_law_88 : decode cX5_law 88 = .ok (.aload_n 0, 1) := dk_42 (dk_at dksX5_law_3 19 rfl rfl)
theorem dX5_law_89 : decode cX5_law 89 = .ok (.getfield 13, 3) := dk_180 0 13 (dk_at dksX5_law_3 20 rfl rfl)
theorem dX5_law_92 : decode cX5_law 92 = .ok (.iconst 4, 1) := dk_7 (dk_at dksX5_law_3 23 rfl rfl)
theorem dX5_law_93 : decode cX5_law 93 = .ok (.iaload, 1) := dk_46 (dk_at dksX5_law_4 0 rfl rfl)
theorem dX5_law_94 : decode cX5_law 94 = .ok (.imul, 1) := dk_104 (dk_at dksX5_law_4 1 rfl rfl)
theorem dX5_law_95 : decode cX5_law 95 = .ok (.iadd, 1) := dk_96 (dk_at dksX5_law_4 2 rfl rfl)
theorem dX5_law_96 : decode cX5_law 96 = .ok (.istore_n 1, 1) := dk_60 (dk_at dksX5_law_4 3 rfl rfl)
theorem dX5_law_97 : decode cX5_law 97 = .ok (.aload_n 0, 1) := dk_42 (dk_at dksX5_law_4 4 rfl rfl)
theorem dX5_law_98 : decode cX5_law 98 = .ok (.getfield 13, 3) := dk_180 0 13 (dk_at dksX5_law_4 5 rfl rfl)
theorem dX5_law_101 : decode cX5_law 101 = .ok (.iload_n 1, 1) := dk_27 (dk_at dksX5_law_4 8 rfl rfl)
theorem dX5_law_102 : decode cX5_law 102 = .ok (.iconst 1, 1) := dk_4 (dk_at dksX5_law_4 9 rfl rfl)
theorem dX5_law_103 : decode cX5_law 103 = .ok (.iadd, 1) := dk_96 (dk_at dksX5_law_4 10 rfl rfl)
theorem dX5_law_104 : decode cX5_law 104 = .ok (.aload_n 0, 1) := dk_42 (dk_at dksX5_law_4 11 rfl rfl)
theorem dX5_law_105 : decode cX5_law 105 = .ok (.getfield 350, 3) := dk_180 1 94 (dk_at dksX5_law_4 12 rfl rfl)
theorem dX5_law_108 : decode cX5_law 108 = .ok (.iastore, 1) := dk_79 (dk_at dksX5_law_4 15 rfl rfl)
theorem dX5_law_109 : decode cX5_law 109 = .ok (.iconst 0, 1) := dk_3 (dk_at dksX5_law_4 16 rfl rfl)
theorem dX5_law_110 : decode cX5_law 110 = .ok (.istore_n 2, 1) := dk_61 (dk_at dksX5_law_4 17 rfl rfl)
theorem dX5_law_111 : decode cX5_law 111 = .ok (.iload_n 2, 1) := dk_28 (dk_at dksX5_law_4 18 rfl rfl)
theorem dX5_law_112 : decode cX5_law 112 = .ok (.bipush 8, 2) := dk_16 8 (dk_at dksX5_law_4 19 rfl rfl)
theorem dX5_law_114 : decode cX5_law 114 = .ok (.aload_n 0, 1) := dk_42 (dk_at dksX5_law_4 21 rfl rfl)
theorem dX5_law_115 : decode cX5_law 115 = .ok (.getfield 350, 3) := dk_180 1 94 (dk_at dksX5_law_5 0 rfl rfl)
theorem dX5_law_118 : decode cX5_law 118 = .ok (.imul, 1) := dk_104 (dk_at dksX5_law_5 3 rfl rfl)
theorem dX5_law_119 : decode cX5_law 119 = .ok (.if_icmp .ge 25, 3) := dk_162 0 25 (dk_at dksX5_law_5 4 rfl rfl)
theorem dX5_law_122 : decode cX5_law 122 = .ok (.aload_n 0, 1) := dk_42 (dk_at dksX5_law_5 7 rfl rfl)
theorem dX5_law_123 : decode cX5_law 123 = .ok (.getfield 13, 3) := dk_180 0 13 (dk_at dksX5_law_5 8 rfl rfl)
theorem dX5_law_126 : decode cX5_law 126 = .ok (.iload_n 1, 1) := dk_27 (dk_at dksX5_law_5 11 rfl rfl)
theorem dX5_law_127 : decode cX5_law 127 = .ok (.iconst 2, 1) := dk_5 (dk_at dksX5_law_5 12 rfl rfl)
theorem dX5_law_128 : decode cX5_law 128 = .ok (.iadd, 1) := dk_96 (dk_at dksX5_law_5 13 rfl rfl)
theorem dX5_law_129 : decode cX5_law 129 = .ok (.iload_n 2, 1) := dk_28 (dk_at dksX5_law_5 14 rfl rfl)
theorem dX5_law_130 : decode cX5_law 130 = .ok (.iadd, 1) := dk_96 (dk_at dksX5_law_5 15 rfl rfl)
theorem dX5_law_131 : decode cX5_law 131 = .ok (.aload_n 0, 1) := dk_42 (dk_at dksX5_law_5 16 rfl rfl)
theorem dX5_law_132 : decode cX5_law 132 = .ok (.getfield 42, 3) := dk_180 0 42 (dk_at dksX5_law_5 17 rfl rfl)
theorem dX5_law_135 : decode cX5_law 135 = .ok (.iload_n 2, 1) := dk_28 (dk_at dksX5_law_5 20 rfl rfl)
theorem dX5_law_136 : decode cX5_law 136 = .ok (.iaload, 1) := dk_46 (dk_at dksX5_law_5 21 rfl rfl)
theorem dX5_law_137 : decode cX5_law 137 = .ok (.iastore, 1) := dk_79 (dk_at dksX5_law_5 22 rfl rfl)
theorem dX5_law_138 : decode cX5_law 138 = .ok (.iinc 2 1, 3) := dk_132 2 1 (dk_at dksX5_law_6 0 rfl rfl)
theorem dX5_law_141 : decode cX5_law 141 = .ok (.goto (-30), 3) := dk_167 255 226 (dk_at dksX5_law_6 3 rfl rfl)
theorem dX5_law_144 : decode cX5_law 144 = .ok (.iconst 0, 1) := dk_3 (dk_at dksX5_law_6 6 rfl rfl)
theorem dX5_law_145 : decode cX5_law 145 = .ok (.istore_n 2, 1) := dk_61 (dk_at dksX5_law_6 7 rfl rfl)
theorem dX5_law_146 : decode cX5_law 146 = .ok (.iload_n 2, 1) := dk_28 (dk_at dksX5_law_6 8 rfl rfl)
theorem dX5_law_147 : decode cX5_law 147 = .ok (.aload_n 0, 1) := dk_42 (dk_at dksX5_law_6 9 rfl rfl)
theorem dX5_law_148 : decode cX5_law 148 = .ok (.getfield 260, 3) := dk_180 1 4 (dk_at dksX5_law_6 10 rfl rfl)
theorem dX5_law_151 : decode cX5_law 151 = .ok (.if_icmp .ge 49, 3) := dk_162 0 49 (dk_at dksX5_law_6 13 rfl rfl)
theorem dX5_law_154 : decode cX5_law 154 = .ok (.aload_n 0, 1) := dk_42 (dk_at dksX5_law_6 16 rfl rfl)
theorem dX5_law_155 : decode cX5_law 155 = .ok (.getfield 13, 3) := dk_180 0 13 (dk_at dksX5_law_6 17 rfl rfl)
theorem dX5_law_158 : decode cX5_law 158 = .ok (.iload_n 1, 1) := dk_27 (dk_at dksX5_law_6 20 rfl rfl)
theorem dX5_law_159 : decode cX5_law 159 = .ok (.bipush 98, 2) := dk_16 98 (dk_at dksX5_law_6 21 rfl rfl)
theorem dX5_law_161 : decode cX5_law 161 = .ok (.iadd, 1) := dk_96 (dk_at dksX5_law_6 23 rfl rfl)
theorem dX5_law_162 : decode cX5_law 162 = .ok (.iconst 2, 1) := dk_5 (dk_at dksX5_law_7 0 rfl rfl)
theorem dX5_law_163 : decode cX5_law 163 = .ok (.iload_n 2, 1) := dk_28 (dk_at dksX5_law_7 1 rfl rfl)
theorem dX5_law_164 : decode cX5_law 164 = .ok (.imul, 1) := dk_104 (dk_at dksX5_law_7 2 rfl rfl)
theorem dX5_law_165 : decode cX5_law 165 = .ok (.iadd, 1) := dk_96 (dk_at dksX5_law_7 3 rfl rfl)
theorem dX5_law_166 : decode cX5_law 166 = .ok (.aload_n 0, 1) := dk_42 (dk_at dksX5_law_7 4 rfl rfl)
theorem dX5_law_167 : decode cX5_law 167 = .ok (.getfield 45, 3) := dk_180 0 45 (dk_at dksX5_law_7 5 rfl rfl)
theorem dX5_law_170 : decode cX5_law 170 = .ok (.iload_n 2, 1) := dk_28 (dk_at dksX5_law_7 8 rfl rfl)
theorem dX5_law_171 : decode cX5_law 171 = .ok (.iaload, 1) := dk_46 (dk_at dksX5_law_7 9 rfl rfl)
theorem dX5_law_172 : decode cX5_law 172 = .ok (.iastore, 1) := dk_79 (dk_at dksX5_law_7 10 rfl rfl)
theorem dX5_law_173 : decode cX5_law 173 = .ok (.aload_n 0, 1) := dk_42 (dk_at dksX5_law_7 11 rfl rfl)
theorem dX5_law_174 : decode cX5_law 174 = .ok (.getfield 13, 3) := dk_180 0 13 (dk_at dksX5_law_7 12 rfl rfl)
theorem dX5_law_177 : decode cX5_law 177 = .ok (.iload_n 1, 1) := dk_27 (dk_at dksX5_law_7 15 rfl rfl)
theorem dX5_law_178 : decode cX5_law 178 = .ok (.bipush 98, 2) := dk_16 98 (dk_at dksX5_law_7 16 rfl rfl)
theorem dX5_law_180 : decode cX5_law 180 = .ok (.iadd, 1) := dk_96 (dk_at dksX5_law_7 18 rfl rfl)
theorem dX5_law_181 : decode cX5_law 181 = .ok (.iconst 2, 1) := dk_5 (dk_at dksX5_law_7 19 rfl rfl)
theorem dX5_law_182 : decode cX5_law 182 = .ok (.iload_n 2, 1) := dk_28 (dk_at dksX5_law_7 20 rfl rfl)
theorem dX5_law_183 : decode cX5_law 183 = .ok (.imul, 1) := dk_104 (dk_at dksX5_law_7 21 rfl rfl)
theorem dX5_law_184 : decode cX5_law 184 = .ok (.iadd, 1) := dk_96 (dk_at dksX5_law_7 22 rfl rfl)
theorem dX5_law_185 : decode cX5_law 185 = .ok (.iconst 1, 1) := dk_4 (dk_at dksX5_law_7 23 rfl rfl)
theorem dX5_law_186 : decode cX5_law 186 = .ok (.iadd, 1) := dk_96 (dk_at dksX5_law_8 0 rfl rfl)
theorem dX5_law_187 : decode cX5_law 187 = .ok (.aload_n 0, 1) := dk_42 (dk_at dksX5_law_8 1 rfl rfl)
theorem dX5_law_188 : decode cX5_law 188 = .ok (.getfield 48, 3) := dk_180 0 48 (dk_at dksX5_law_8 2 rfl rfl)
theorem dX5_law_191 : decode cX5_law 191 = .ok (.iload_n 2, 1) := dk_28 (dk_at dksX5_law_8 5 rfl rfl)
theorem dX5_law_192 : decode cX5_law 192 = .ok (.iaload, 1) := dk_46 (dk_at dksX5_law_8 6 rfl rfl)
theorem dX5_law_193 : decode cX5_law 193 = .ok (.iastore, 1) := dk_79 (dk_at dksX5_law_8 7 rfl rfl)
theorem dX5_law_194 : decode cX5_law 194 = .ok (.iinc 2 1, 3) := dk_132 2 1 (dk_at dksX5_law_8 8 rfl rfl)
theorem dX5_law_197 : decode cX5_law 197 = .ok (.goto (-51), 3) := dk_167 255 205 (dk_at dksX5_law_8 11 rfl rfl)
theorem dX5_law_200 : decode cX5_law 200 = .ok (.aload_n 0, 1) := dk_42 (dk_at dksX5_law_8 14 rfl rfl)
theorem dX5_law_201 : decode cX5_law 201 = .ok (.getfield 13, 3) := dk_180 0 13 (dk_at dksX5_law_8 15 rfl rfl)
theorem dX5_law_204 : decode cX5_law 204 = .ok (.iconst 4, 1) := dk_7 (dk_at dksX5_law_8 18 rfl rfl)
theorem dX5_law_205 : decode cX5_law 205 = .ok (.dup2, 1) := dk_92 (dk_at dksX5_law_8 19 rfl rfl)
theorem dX5_law_206 : decode cX5_law 206 = .ok (.iaload, 1) := dk_46 (dk_at dksX5_law_8 20 rfl rfl)
theorem dX5_law_207 : decode cX5_law 207 = .ok (.iconst 1, 1) := dk_4 (dk_at dksX5_law_8 21 rfl rfl)
theorem dX5_law_208 : decode cX5_law 208 = .ok (.iadd, 1) := dk_96 (dk_at dksX5_law_8 22 rfl rfl)
theorem dX5_law_209 : decode cX5_law 209 = .ok (.iastore, 1) := dk_79 (dk_at dksX5_law_8 23 rfl rfl)
theorem dX5_law_210 : decode cX5_law 210 = .ok (.aload_n 0, 1) := dk_42 (dk_at dksX5_law_9 0 rfl rfl)
theorem dX5_law_211 : decode cX5_law 211 = .ok (.aload_n 0, 1) := dk_42 (dk_at dksX5_law_9 1 rfl rfl)
theorem dX5_law_212 : decode cX5_law 212 = .ok (.getfield 13, 3) := dk_180 0 13 (dk_at dksX5_law_9 2 rfl rfl)
theorem dX5_law_215 : decode cX5_law 215 = .ok (.iconst 4, 1) := dk_7 (dk_at dksX5_law_9 5 rfl rfl)
theorem dX5_law_216 : decode cX5_law 216 = .ok (.iaload, 1) := dk_46 (dk_at dksX5_law_9 6 rfl rfl)
theorem dX5_law_217 : decode cX5_law 217 = .ok (.iconst 1, 1) := dk_4 (dk_at dksX5_law_9 7 rfl rfl)
theorem dX5_law_218 : decode cX5_law 218 = .ok (.isub, 1) := dk_100 (dk_at dksX5_law_9 8 rfl rfl)
theorem dX5_law_219 : decode cX5_law 219 = .ok (.invokevirtual 155, 3) := dk_182 0 155 (dk_at dksX5_law_9 9 rfl rfl)
theorem dX5_law_222 : decode cX5_law 222 = .ok (.ireturn, 1) := dk_172 (dk_at dksX5_law_9 12 rfl rfl)
abbrev cX5_beginText : ByteArray := prog_22_method_56_code
def yX5_beginText : MethodName := ⟨RX5, "beginText", "(Z)V"⟩
def dkwX5_beginText_1 : List UInt8 := [177]
abbrev dktX5_beginText_1 : List UInt8 := dkwX5_beginText_1 ++ []
def dkwX5_beginText_0 : List UInt8 := [42, 27, 181, 1, 44, 42, 182, 1, 91, 42, 3, 181, 1, 94, 42, 3, 181, 1, 4, 42, 3, 181, 1, 35]
abbrev dktX5_beginText_0 : List UInt8 := dkwX5_beginText_0 ++ dktX5_beginText_1
theorem dksX5_beginText_0 : cX5_beginText.data.toList.drop 0 = dktX5_beginText_0 := by decide +kernel
theorem dksX5_beginText_1 : cX5_beginText.data.toList.drop 24 = dktX5_beginText_1 := dk_seg dksX5_beginText_0 24 rfl rfl
theorem dX5_beginText_0 : decode cX5_beginText 0 = .ok (.aload_n 0, 1) := dk_42 (dk_at dksX5_beginText_0 0 rfl rfl)
theorem dX5_beginText_1 : decode cX5_beginText 1 = .ok (.iload_n 1, 1) := dk_27 (dk_at dksX5_beginText_0 1 rfl rfl)
theorem dX5_beginText_2 : decode cX5_beginText 2 = .ok (.putfield 300, 3) := dk_181 1 44 (dk_at dksX5_beginText_0 2 rfl rfl)
theorem dX5_beginText_5 : decode cX5_beginText 5 = .ok (.aload_n 0, 1) := dk_42 (dk_at dksX5_beginText_0 5 rfl rfl)
theorem dX5_beginText_6 : decode cX5_beginText 6 = .ok (.invokevirtual 347, 3) := dk_182 1 91 (dk_at dksX5_beginText_0 6 rfl rfl)
theorem dX5_beginText_9 : decode cX5_beginText 9 = .ok (.aload_n 0, 1) := dk_42 (dk_at dksX5_beginText_0 9 rfl rfl)
theorem dX5_beginText_10 : decode cX5_beginText 10 = .ok (.iconst 0, 1) := dk_3 (dk_at dksX5_beginText_0 10 rfl rfl)
theorem dX5_beginText_11 : decode cX5_beginText 11 = .ok (.putfield 350, 3) := dk_181 1 94 (dk_at dksX5_beginText_0 11 rfl rfl)
theorem dX5_beginText_14 : decode cX5_beginText 14 = .ok (.aload_n 0, 1) := dk_42 (dk_at dksX5_beginText_0 14 rfl rfl)
theorem dX5_beginText_15 : decode cX5_beginText 15 = .ok (.iconst 0, 1) := dk_3 (dk_at dksX5_beginText_0 15 rfl rfl)
theorem dX5_beginText_16 : decode cX5_beginText 16 = .ok (.putfield 260, 3) := dk_181 1 4 (dk_at dksX5_beginText_0 16 rfl rfl)
theorem dX5_beginText_19 : decode cX5_beginText 19 = .ok (.aload_n 0, 1) := dk_42 (dk_at dksX5_beginText_0 19 rfl rfl)
theorem dX5_beginText_20 : decode cX5_beginText 20 = .ok (.iconst 0, 1) := dk_3 (dk_at dksX5_beginText_0 20 rfl rfl)
theorem dX5_beginText_21 : decode cX5_beginText 21 = .ok (.putfield 291, 3) := dk_181 1 35 (dk_at dksX5_beginText_0 21 rfl rfl)
theorem dX5_beginText_24 : decode cX5_beginText 24 = .ok (.return_, 1) := dk_177 (dk_at dksX5_beginText_1 0 rfl rfl)
abbrev cX5_begin : ByteArray := prog_22_method_34_code
def yX5_begin : MethodName := ⟨RX5, "begin", "()V"⟩
def dkwX5_begin_0 : List UInt8 := [42, 3, 181, 0, 222, 42, 3, 181, 0, 225, 42, 2, 181, 0, 38, 42, 182, 0, 229, 177]
abbrev dktX5_begin_0 : List UInt8 := dkwX5_begin_0 ++ []
theorem dksX5_begin_0 : cX5_begin.data.toList.drop 0 = dktX5_begin_0 := by decide +kernel
theorem dX5_begin_0 : decode cX5_begin 0 = .ok (.aload_n 0, 1) := dk_42 (dk_at dksX5_begin_0 0 rfl rfl)
theorem dX5_begin_1 : decode cX5_begin 1 = .ok (.iconst 0, 1) := dk_3 (dk_at dksX5_begin_0 1 rfl rfl)
theorem dX5_begin_2 : decode cX5_begin 2 = .ok (.putfield 222, 3) := dk_181 0 222 (dk_at dksX5_begin_0 2 rfl rfl)
theorem dX5_begin_5 : decode cX5_begin 5 = .ok (.aload_n 0, 1) := dk_42 (dk_at dksX5_begin_0 5 rfl rfl)
theorem dX5_begin_6 : decode cX5_begin 6 = .ok (.iconst 0, 1) := dk_3 (dk_at dksX5_begin_0 6 rfl rfl)
theorem dX5_begin_7 : decode cX5_begin 7 = .ok (.putfield 225, 3) := dk_181 0 225 (dk_at dksX5_begin_0 7 rfl rfl)
theorem dX5_begin_10 : decode cX5_begin 10 = .ok (.aload_n 0, 1) := dk_42 (dk_at dksX5_begin_0 10 rfl rfl)
theorem dX5_begin_11 : decode cX5_begin 11 = .ok (.iconst (-1), 1) := dk_2 (dk_at dksX5_begin_0 11 rfl rfl)
theorem dX5_begin_12 : decode cX5_begin 12 = .ok (.putfield 38, 3) := dk_181 0 38 (dk_at dksX5_begin_0 12 rfl rfl)
theorem dX5_begin_15 : decode cX5_begin 15 = .ok (.aload_n 0, 1) := dk_42 (dk_at dksX5_begin_0 15 rfl rfl)
theorem dX5_begin_16 : decode cX5_begin 16 = .ok (.invokevirtual 229, 3) := dk_182 0 229 (dk_at dksX5_begin_0 16 rfl rfl)
theorem dX5_begin_19 : decode cX5_begin 19 = .ok (.return_, 1) := dk_177 (dk_at dksX5_begin_0 19 rfl rfl)
abbrev cX5_nextToken : ByteArray := prog_22_method_35_code
def yX5_nextToken : MethodName := ⟨RX5, "nextToken", "()V"⟩
def dkwX5_nextToken_14 : List UInt8 := [181, 0, 222, 167, 255, 167, 177]
abbrev dktX5_nextToken_14 : List UInt8 := dkwX5_nextToken_14 ++ []
def dkwX5_nextToken_13 : List UInt8 := [180, 0, 35, 42, 180, 0, 222, 46, 133, 97, 20, 0, 254, 101, 181, 0, 235, 42, 89, 180, 0, 222, 4, 96]
abbrev dktX5_nextToken_13 : List UInt8 := dkwX5_nextToken_13 ++ dktX5_nextToken_14
def dkwX5_nextToken_12 : List UInt8 := [20, 0, 174, 148, 158, 0, 10, 42, 180, 0, 235, 167, 0, 26, 42, 180, 0, 235, 20, 0, 204, 105, 42]
abbrev dktX5_nextToken_12 : List UInt8 := dkwX5_nextToken_12 ++ dktX5_nextToken_13
def dkwX5_nextToken_11 : List UInt8 := [162, 0, 76, 42, 180, 0, 35, 42, 180, 0, 222, 46, 184, 0, 242, 153, 0, 61, 42, 42, 180, 0, 235]
abbrev dktX5_nextToken_11 : List UInt8 := dkwX5_nextToken_11 ++ dktX5_nextToken_12
def dkwX5_nextToken_10 : List UInt8 := [4, 96, 181, 0, 222, 167, 255, 165, 42, 180, 0, 245, 5, 160, 0, 87, 42, 180, 0, 222, 42, 180, 0, 213]
abbrev dktX5_nextToken_10 : List UInt8 := dkwX5_nextToken_10 ++ dktX5_nextToken_11
def dkwX5_nextToken_9 : List UInt8 := [180, 0, 222, 46, 133, 97, 20, 0, 250, 101, 167, 0, 6, 20, 0, 252, 181, 0, 235, 42, 89, 180, 0, 222]
abbrev dktX5_nextToken_9 : List UInt8 := dkwX5_nextToken_9 ++ dktX5_nextToken_10
def dkwX5_nextToken_8 : List UInt8 := [180, 0, 232, 100, 16, 10, 162, 0, 29, 42, 180, 0, 235, 20, 0, 248, 105, 42, 180, 0, 35, 42]
abbrev dktX5_nextToken_8 : List UInt8 := dkwX5_nextToken_8 ++ dktX5_nextToken_9
def dkwX5_nextToken_7 : List UInt8 := [162, 0, 78, 42, 180, 0, 35, 42, 180, 0, 222, 46, 184, 0, 239, 153, 0, 63, 42, 42, 180, 0, 222, 42]
abbrev dktX5_nextToken_7 : List UInt8 := dkwX5_nextToken_7 ++ dktX5_nextToken_8
def dkwX5_nextToken_6 : List UInt8 := [180, 0, 222, 4, 96, 181, 0, 222, 42, 180, 0, 245, 4, 160, 0, 89, 42, 180, 0, 222, 42, 180, 0, 213]
abbrev dktX5_nextToken_6 : List UInt8 := dkwX5_nextToken_6 ++ dktX5_nextToken_7
def dkwX5_nextToken_5 : List UInt8 := [180, 0, 245, 6, 160, 0, 27, 42, 42, 180, 0, 35, 42, 180, 0, 232, 46, 133, 181, 0, 235, 42, 89]
abbrev dktX5_nextToken_5 : List UInt8 := dkwX5_nextToken_5 ++ dktX5_nextToken_6
def dkwX5_nextToken_4 : List UInt8 := [180, 0, 35, 42, 180, 0, 232, 46, 184, 0, 242, 153, 0, 7, 5, 167, 0, 4, 6, 181, 0, 245, 42]
abbrev dktX5_nextToken_4 : List UInt8 := dkwX5_nextToken_4 ++ dktX5_nextToken_5
def dkwX5_nextToken_3 : List UInt8 := [167, 0, 42, 42, 180, 0, 35, 42, 180, 0, 232, 46, 184, 0, 239, 153, 0, 7, 4, 167, 0, 23, 42]
abbrev dktX5_nextToken_3 : List UInt8 := dkwX5_nextToken_3 ++ dktX5_nextToken_4
def dkwX5_nextToken_2 : List UInt8 := [180, 0, 232, 181, 0, 222, 42, 9, 181, 0, 235, 42, 42, 180, 0, 232, 42, 180, 0, 213, 160, 0, 7, 3]
abbrev dktX5_nextToken_2 : List UInt8 := dkwX5_nextToken_2 ++ dktX5_nextToken_3
def dkwX5_nextToken_1 : List UInt8 := [180, 0, 232, 46, 16, 32, 160, 0, 16, 42, 89, 180, 0, 232, 4, 96, 181, 0, 232, 167, 255, 221, 42, 42]
abbrev dktX5_nextToken_1 : List UInt8 := dkwX5_nextToken_1 ++ dktX5_nextToken_2
def dkwX5_nextToken_0 : List UInt8 := [42, 42, 180, 0, 222, 181, 0, 232, 42, 180, 0, 232, 42, 180, 0, 213, 162, 0, 30, 42, 180, 0, 35, 42]
abbrev dktX5_nextToken_0 : List UInt8 := dkwX5_nextToken_0 ++ dktX5_nextToken_1
theorem dksX5_nextToken_0 : cX5_nextToken.data.toList.drop 0 = dktX5_nextToken_0 := by decide +kernel
theorem dksX5_nextToken_1 : cX5_nextToken.data.toList.drop 24 = dktX5_nextToken_1 := dk_seg dksX5_nextToken_0 24 rfl rfl
theorem dksX5_nextToken_2 : cX5_nextToken.data.toList.drop 48 = dktX5_nextToken_2 := dk_seg dksX5_nextToken_1 24 rfl rfl
theorem dksX5_nextToken_3 : cX5_nextToken.data.toList.drop 72 = dktX5_nextToken_3 := dk_seg dksX5_nextToken_2 24 rfl rfl
theorem dksX5_nextToken_4 : cX5_nextToken.data.toList.drop 95 = dktX5_nextToken_4 := dk_seg dksX5_nextToken_3 23 rfl rfl
theorem dksX5_nextToken_5 : cX5_nextToken.data.toList.drop 118 = dktX5_nextToken_5 := dk_seg dksX5_nextToken_4 23 rfl rfl
theorem dksX5_nextToken_6 : cX5_nextToken.data.toList.drop 141 = dktX5_nextToken_6 := dk_seg dksX5_nextToken_5 23 rfl rfl
theorem dksX5_nextToken_7 : cX5_nextToken.data.toList.drop 165 = dktX5_nextToken_7 := dk_seg dksX5_nextToken_6 24 rfl rfl
theorem dksX5_nextToken_8 : cX5_nextToken.data.toList.drop 189 = dktX5_nextToken_8 := dk_seg dksX5_nextToken_7 24 rfl rfl
theorem dksX5_nextToken_9 : cX5_nextToken.data.toList.drop 211 = dktX5_nextToken_9 := dk_seg dksX5_nextToken_8 22 rfl rfl
theorem dksX5_nextToken_10 : cX5_nextToken.data.toList.drop 235 = dktX5_nextToken_10 := dk_seg dksX5_nextToken_9 24 rfl rfl
theorem dksX5_nextToken_11 : cX5_nextToken.data.toList.drop 259 = dktX5_nextToken_11 := dk_seg dksX5_nextToken_10 24 rfl rfl
theorem dksX5_nextToken_12 : cX5_nextToken.data.toList.drop 282 = dktX5_nextToken_12 := dk_seg dksX5_nextToken_11 23 rfl rfl
theorem dksX5_nextToken_13 : cX5_nextToken.data.toList.drop 305 = dktX5_nextToken_13 := dk_seg dksX5_nextToken_12 23 rfl rfl
theorem dksX5_nextToken_14 : cX5_nextToken.data.toList.drop 329 = dktX5_nextToken_14 := dk_seg dksX5_nextToken_13 24 rfl rfl
theorem dX5_nextToken_0 : decode cX5_nextToken 0 = .ok (.aload_n 0, 1) := dk_42 (dk_at dksX5_nextToken_0 0 rfl rfl)
theorem dX5_nextToken_1 : decode cX5_nextToken 1 = .ok (.aload_n 0, 1) := dk_42 (dk_at dksX5_nextToken_0 1 rfl rfl)
theorem dX5_nextToken_2 : decode cX5_nextToken 2 = .ok (.getfield 222, 3) := dk_180 0 222 (dk_at dksX5_nextToken_0 2 rfl rfl)
theorem dX5_nextToken_5 : decode cX5_nextToken 5 = .ok (.putfield 232, 3) := dk_181 0 232 (dk_at dksX5_nextToken_0 5 rfl rfl)
theorem dX5_nextToken_8 : decode cX5_nextToken 8 = .ok (.aload_n 0, 1) := dk_42 (dk_at dksX5_nextToken_0 8 rfl rfl)
theorem dX5_nextToken_9 : decode cX5_nextToken 9 = .ok (.getfield 232, 3) := dk_180 0 232 (dk_at dksX5_nextToken_0 9 rfl rfl)
theorem dX5_nextToken_12 : decode cX5_nextToken 12 = .ok (.aload_n 0, 1) := dk_42 (dk_at dksX5_nextToken_0 12 rfl rfl)
theorem dX5_nextToken_13 : decode cX5_nextToken 13 = .ok (.getfield 213, 3) := dk_180 0 213 (dk_at dksX5_nextToken_0 13 rfl rfl)
theorem dX5_nextToken_16 : decode cX5_nextToken 16 = .ok (.if_icmp .ge 30, 3) := dk_162 0 30 (dk_at dksX5_nextToken_0 16 rfl rfl)
theorem dX5_nextToken_19 : decode cX5_nextToken 19 = .ok (.aload_n 0, 1) := dk_42 (dk_at dksX5_nextToken_0 19 rfl rfl)
theorem dX5_nextToken_20 : decode cX5_nextToken 20 = .ok (.getfield 35, 3) := dk_180 0 35 (dk_at dksX5_nextToken_0 20 rfl rfl)
theorem dX5_nextToken_23 : decode cX5_nextToken 23 = .ok (.aload_n 0, 1) := dk_42 (dk_at dksX5_nextToken_0 23 rfl rfl)
theorem dX5_nextToken_24 : decode cX5_nextToken 24 = .ok (.getfield 232, 3) := dk_180 0 232 (dk_at dksX5_nextToken_1 0 rfl rfl)
theorem dX5_nextToken_27 : decode cX5_nextToken 27 = .ok (.iaload, 1) := dk_46 (dk_at dksX5_nextToken_1 3 rfl rfl)
theorem dX5_nextToken_28 : decode cX5_nextToken 28 = .ok (.bipush 32, 2) := dk_16 32 (dk_at dksX5_nextToken_1 4 rfl rfl)
theorem dX5_nextToken_30 : decode cX5_nextToken 30 = .ok (.if_icmp .ne 16, 3) := dk_160 0 16 (dk_at dksX5_nextToken_1 6 rfl rfl)
theorem dX5_nextToken_33 : decode cX5_nextToken 33 = .ok (.aload_n 0, 1) := dk_42 (dk_at dksX5_nextToken_1 9 rfl rfl)
theorem dX5_nextToken_34 : decode cX5_nextToken 34 = .ok (.dup, 1) := dk_89 (dk_at dksX5_nextToken_1 10 rfl rfl)
theorem dX5_nextToken_35 : decode cX5_nextToken 35 = .ok (.getfield 232, 3) := dk_180 0 232 (dk_at dksX5_nextToken_1 11 rfl rfl)
theorem dX5_nextToken_38 : decode cX5_nextToken 38 = .ok (.iconst 1, 1) := dk_4 (dk_at dksX5_nextToken_1 14 rfl rfl)
theorem dX5_nextToken_39 : decode cX5_nextToken 39 = .ok (.iadd, 1) := dk_96 (dk_at dksX5_nextToken_1 15 rfl rfl)
theorem dX5_nextToken_40 : decode cX5_nextToken 40 = .ok (.putfield 232, 3) := dk_181 0 232 (dk_at dksX5_nextToken_1 16 rfl rfl)
theorem dX5_nextToken_43 : decode cX5_nextToken 43 = .ok (.goto (-35), 3) := dk_167 255 221 (dk_at dksX5_nextToken_1 19 rfl rfl)
theorem dX5_nextToken_46 : decode cX5_nextToken 46 = .ok (.aload_n 0, 1) := dk_42 (dk_at dksX5_nextToken_1 22 rfl rfl)
theorem dX5_nextToken_47 : decode cX5_nextToken 47 = .ok (.aload_n 0, 1) := dk_42 (dk_at dksX5_nextToken_1 23 rfl rfl)
theorem dX5_nextToken_48 : decode cX5_nextToken 48 = .ok (.getfield 232, 3) := dk_180 0 232 (dk_at dksX5_nextToken_2 0 rfl rfl)
theorem dX5_nextToken_51 : decode cX5_nextToken 51 = .ok (.putfield 222, 3) := dk_181 0 222 (dk_at dksX5_nextToken_2 3 rfl rfl)
theorem dX5_nextToken_54 : decode cX5_nextToken 54 = .ok (.aload_n 0, 1) := dk_42 (dk_at dksX5_nextToken_2 6 rfl rfl)
theorem dX5_nextToken_55 : decode cX5_nextToken 55 = .ok (.lconst 0, 1) := dk_9 (dk_at dksX5_nextToken_2 7 rfl rfl)
theorem dX5_nextToken_56 : decode cX5_nextToken 56 = .ok (.putfield 235, 3) := dk_181 0 235 (dk_at dksX5_nextToken_2 8 rfl rfl)
theorem dX5_nextToken_59 : decode cX5_nextToken 59 = .ok (.aload_n 0, 1) := dk_42 (dk_at dksX5_nextToken_2 11 rfl rfl)
theorem dX5_nextToken_60 : decode cX5_nextToken 60 = .ok (.aload_n 0, 1) := dk_42 (dk_at dksX5_nextToken_2 12 rfl rfl)
theorem dX5_nextToken_61 : decode cX5_nextToken 61 = .ok (.getfield 232, 3) := dk_180 0 232 (dk_at dksX5_nextToken_2 13 rfl rfl)
theorem dX5_nextToken_64 : decode cX5_nextToken 64 = .ok (.aload_n 0, 1) := dk_42 (dk_at dksX5_nextToken_2 16 rfl rfl)
theorem dX5_nextToken_65 : decode cX5_nextToken 65 = .ok (.getfield 213, 3) := dk_180 0 213 (dk_at dksX5_nextToken_2 17 rfl rfl)
theorem dX5_nextToken_68 : decode cX5_nextToken 68 = .ok (.if_icmp .ne 7, 3) := dk_160 0 7 (dk_at dksX5_nextToken_2 20 rfl rfl)
theorem dX5_nextToken_71 : decode cX5_nextToken 71 = .ok (.iconst 0, 1) := dk_3 (dk_at dksX5_nextToken_2 23 rfl rfl)
theorem dX5_nextToken_72 : decode cX5_nextToken 72 = .ok (.goto 42, 3) := dk_167 0 42 (dk_at dksX5_nextToken_3 0 rfl rfl)
theorem dX5_nextToken_75 : decode cX5_nextToken 75 = .ok (.aload_n 0, 1) := dk_42 (dk_at dksX5_nextToken_3 3 rfl rfl)
theorem dX5_nextToken_76 : decode cX5_nextToken 76 = .ok (.getfield 35, 3) := dk_180 0 35 (dk_at dksX5_nextToken_3 4 rfl rfl)
theorem dX5_nextToken_79 : decode cX5_nextToken 79 = .ok (.aload_n 0, 1) := dk_42 (dk_at dksX5_nextToken_3 7 rfl rfl)
theorem dX5_nextToken_80 : decode cX5_nextToken 80 = .ok (.getfield 232, 3) := dk_180 0 232 (dk_at dksX5_nextToken_3 8 rfl rfl)
theorem dX5_nextToken_83 : decode cX5_nextToken 83 = .ok (.iaload, 1) := dk_46 (dk_at dksX5_nextToken_3 11 rfl rfl)
theorem dX5_nextToken_84 : decode cX5_nextToken 84 = .ok (.invokestatic 239, 3) := dk_184 0 239 (dk_at dksX5_nextToken_3 12 rfl rfl)
theorem dX5_nextToken_87 : decode cX5_nextToken 87 = .ok (.ifCond .eq 7, 3) := dk_153 0 7 (dk_at dksX5_nextToken_3 15 rfl rfl)
theorem dX5_nextToken_90 : decode cX5_nextToken 90 = .ok (.iconst 1, 1) := dk_4 (dk_at dksX5_nextToken_3 18 rfl rfl)
theorem dX5_nextToken_91 : decode cX5_nextToken 91 = .ok (.goto 23, 3) := dk_167 0 23 (dk_at dksX5_nextToken_3 19 rfl rfl)
theorem dX5_nextToken_94 : decode cX5_nextToken 94 = .ok (.aload_n 0, 1) := dk_42 (dk_at dksX5_nextToken_3 22 rfl rfl)
theorem dX5_nextToken_95 : decode cX5_nextToken 95 = .ok (.getfield 35, 3) := dk_180 0 35 (dk_at dksX5_nextToken_4 0 rfl rfl)
theorem dX5_nextToken_98 : decode cX5_nextToken 98 = .ok (.aload_n 0, 1) := dk_42 (dk_at dksX5_nextToken_4 3 rfl rfl)
theorem dX5_nextToken_99 : decode cX5_nextToken 99 = .ok (.getfield 232, 3) := dk_180 0 232 (dk_at dksX5_nextToken_4 4 rfl rfl)
theorem dX5_nextToken_102 : decode cX5_nextToken 102 = .ok (.iaload, 1) := dk_46 (dk_at dksX5_nextToken_4 7 rfl rfl)
theorem dX5_nextToken_103 : decode cX5_nextToken 103 = .ok (.invokestatic 242, 3) := dk_184 0 242 (dk_at dksX5_nextToken_4 8 rfl rfl)
theorem dX5_nextToken_106 : decode cX5_nextToken 106 = .ok (.ifCond .eq 7, 3) := dk_153 0 7 (dk_at dksX5_nextToken_4 11 rfl rfl)
theorem dX5_nextToken_109 : decode cX5_nextToken 109 = .ok (.iconst 2, 1) := dk_5 (dk_at dksX5_nextToken_4 14 rfl rfl)
theorem dX5_nextToken_110 : decode cX5_nextToken 110 = .ok (.goto 4, 3) := dk_167 0 4 (dk_at dksX5_nextToken_4 15 rfl rfl)
theorem dX5_nextToken_113 : decode cX5_nextToken 113 = .ok (.iconst 3, 1) := dk_6 (dk_at dksX5_nextToken_4 18 rfl rfl)
theorem dX5_nextToken_114 : decode cX5_nextToken 114 = .ok (.putfield 245, 3) := dk_181 0 245 (dk_at dksX5_nextToken_4 19 rfl rfl)
theorem dX5_nextToken_117 : decode cX5_nextToken 117 = .ok (.aload_n 0, 1) := dk_42 (dk_at dksX5_nextToken_4 22 rfl rfl)
theorem dX5_nextToken_118 : decode cX5_nextToken 118 = .ok (.getfield 245, 3) := dk_180 0 245 (dk_at dksX5_nextToken_5 0 rfl rfl)
theorem dX5_nextToken_121 : decode cX5_nextToken 121 = .ok (.iconst 3, 1) := dk_6 (dk_at dksX5_nextToken_5 3 rfl rfl)
theorem dX5_nextToken_122 : decode cX5_nextToken 122 = .ok (.if_icmp .ne 27, 3) := dk_160 0 27 (dk_at dksX5_nextToken_5 4 rfl rfl)
theorem dX5_nextToken_125 : decode cX5_nextToken 125 = .ok (.aload_n 0, 1) := dk_42 (dk_at dksX5_nextToken_5 7 rfl rfl)
theorem dX5_nextToken_126 : decode cX5_nextToken 126 = .ok (.aload_n 0, 1) := dk_42 (dk_at dksX5_nextToken_5 8 rfl rfl)
theorem dX5_nextToken_127 : decode cX5_nextToken 127 = .ok (.getfield 35, 3) := dk_180 0 35 (dk_at dksX5_nextToken_5 9 rfl rfl)
theorem dX5_nextToken_130 : decode cX5_nextToken 130 = .ok (.aload_n 0, 1) := dk_42 (dk_at dksX5_nextToken_5 12 rfl rfl)
theorem dX5_nextToken_131 : decode cX5_nextToken 131 = .ok (.getfield 232, 3) := dk_180 0 232 (dk_at dksX5_nextToken_5 13 rfl rfl)
theorem dX5_nextToken_134 : decode cX5_nextToken 134 = .ok (.iaload, 1) := dk_46 (dk_at dksX5_nextToken_5 16 rfl rfl)
theorem dX5_nextToken_135 : decode cX5_nextToken 135 = .ok (.i2l, 1) := dk_133 (dk_at dksX5_nextToken_5 17 rfl rfl)
theorem dX5_nextToken_136 : decode cX5_nextToken 136 = .ok (.putfield 235, 3) := dk_181 0 235 (dk_at dksX5_nextToken_5 18 rfl rfl)
theorem dX5_nextToken_139 : decode cX5_nextToken 139 = .ok (.aload_n 0, 1) := dk_42 (dk_at dksX5_nextToken_5 21 rfl rfl)
theorem dX5_nextToken_140 : decode cX5_nextToken 140 = .ok (.dup, 1) := dk_89 (dk_at dksX5_nextToken_5 22 rfl rfl)
theorem dX5_nextToken_141 : decode cX5_nextToken 141 = .ok (.getfield 222, 3) := dk_180 0 222 (dk_at dksX5_nextToken_6 0 rfl rfl)
theorem dX5_nextToken_144 : decode cX5_nextToken 144 = .ok (.iconst 1, 1) := dk_4 (dk_at dksX5_nextToken_6 3 rfl rfl)
theorem dX5_nextToken_145 : decode cX5_nextToken 145 = .ok (.iadd, 1) := dk_96 (dk_at dksX5_nextToken_6 4 rfl rfl)
theorem dX5_nextToken_146 : decode cX5_nextToken 146 = .ok (.putfield 222, 3) := dk_181 0 222 (dk_at dksX5_nextToken_6 5 rfl rfl)
theorem dX5_nextToken_149 : decode cX5_nextToken 149 = .ok (.aload_n 0, 1) := dk_42 (dk_at dksX5_nextToken_6 8 rfl rfl)
theorem dX5_nextToken_150 : decode cX5_nextToken 150 = .ok (.getfield 245, 3) := dk_180 0 245 (dk_at dksX5_nextToken_6 9 rfl rfl)
theorem dX5_nextToken_153 : decode cX5_nextToken 153 = .ok (.iconst 1, 1) := dk_4 (dk_at dksX5_nextToken_6 12 rfl rfl)
theorem dX5_nextToken_154 : decode cX5_nextToken 154 = .ok (.if_icmp .ne 89, 3) := dk_160 0 89 (dk_at dksX5_nextToken_6 13 rfl rfl)
theorem dX5_nextToken_157 : decode cX5_nextToken 157 = .ok (.aload_n 0, 1) := dk_42 (dk_at dksX5_nextToken_6 16 rfl rfl)
theorem dX5_nextToken_158 : decode cX5_nextToken 158 = .ok (.getfield 222, 3) := dk_180 0 222 (dk_at dksX5_nextToken_6 17 rfl rfl)
theorem dX5_nextToken_161 : decode cX5_nextToken 161 = .ok (.aload_n 0, 1) := dk_42 (dk_at dksX5_nextToken_6 20 rfl rfl)
theorem dX5_nextToken_162 : decode cX5_nextToken 162 = .ok (.getfield 213, 3) := dk_180 0 213 (dk_at dksX5_nextToken_6 21 rfl rfl)
theorem dX5_nextToken_165 : decode cX5_nextToken 165 = .ok (.if_icmp .ge 78, 3) := dk_162 0 78 (dk_at dksX5_nextToken_7 0 rfl rfl)
theorem dX5_nextToken_168 : decode cX5_nextToken 168 = .ok (.aload_n 0, 1) := dk_42 (dk_at dksX5_nextToken_7 3 rfl rfl)
theorem dX5_nextToken_169 : decode cX5_nextToken 169 = .ok (.getfield 35, 3) := dk_180 0 35 (dk_at dksX5_nextToken_7 4 rfl rfl)
theorem dX5_nextToken_172 : decode cX5_nextToken 172 = .ok (.aload_n 0, 1) := dk_42 (dk_at dksX5_nextToken_7 7 rfl rfl)
theorem dX5_nextToken_173 : decode cX5_nextToken 173 = .ok (.getfield 222, 3) := dk_180 0 222 (dk_at dksX5_nextToken_7 8 rfl rfl)
theorem dX5_nextToken_176 : decode cX5_nextToken 176 = .ok (.iaload, 1) := dk_46 (dk_at dksX5_nextToken_7 11 rfl rfl)
theorem dX5_nextToken_177 : decode cX5_nextToken 177 = .ok (.invokestatic 239, 3) := dk_184 0 239 (dk_at dksX5_nextToken_7 12 rfl rfl)
theorem dX5_nextToken_180 : decode cX5_nextToken 180 = .ok (.ifCond .eq 63, 3) := dk_153 0 63 (dk_at dksX5_nextToken_7 15 rfl rfl)
theorem dX5_nextToken_183 : decode cX5_nextToken 183 = .ok (.aload_n 0, 1) := dk_42 (dk_at dksX5_nextToken_7 18 rfl rfl)
theorem dX5_nextToken_184 : decode cX5_nextToken 184 = .ok (.aload_n 0, 1) := dk_42 (dk_at dksX5_nextToken_7 19 rfl rfl)
theorem dX5_nextToken_185 : decode cX5_nextToken 185 = .ok (.getfield 222, 3) := dk_180 0 222 (dk_at dksX5_nextToken_7 20 rfl rfl)
theorem dX5_nextToken_188 : decode cX5_nextToken 188 = .ok (.aload_n 0, 1) := dk_42 (dk_at dksX5_nextToken_7 23 rfl rfl)
theorem dX5_nextToken_189 : decode cX5_nextToken 189 = .ok (.getfield 232, 3) := dk_180 0 232 (dk_at dksX5_nextToken_8 0 rfl rfl)
theorem dX5_nextToken_192 : decode cX5_nextToken 192 = .ok (.isub, 1) := dk_100 (dk_at dksX5_nextToken_8 3 rfl rfl)
theorem dX5_nextToken_193 : decode cX5_nextToken 193 = .ok (.bipush 10, 2) := dk_16 10 (dk_at dksX5_nextToken_8 4 rfl rfl)
theorem dX5_nextToken_195 : decode cX5_nextToken 195 = .ok (.if_icmp .ge 29, 3) := dk_162 0 29 (dk_at dksX5_nextToken_8 6 rfl rfl)
theorem dX5_nextToken_198 : decode cX5_nextToken 198 = .ok (.aload_n 0, 1) := dk_42 (dk_at dksX5_nextToken_8 9 rfl rfl)
theorem dX5_nextToken_199 : decode cX5_nextToken 199 = .ok (.getfield 235, 3) := dk_180 0 235 (dk_at dksX5_nextToken_8 10 rfl rfl)
theorem dX5_nextToken_202 : decode cX5_nextToken 202 = .ok (.ldc2_w 248, 3) := dk_20 0 248 (dk_at dksX5_nextToken_8 13 rfl rfl)
theorem dX5_nextToken_205 : decode cX5_nextToken 205 = .ok (.lmul, 1) := dk_105 (dk_at dksX5_nextToken_8 16 rfl rfl)
theorem dX5_nextToken_206 : decode cX5_nextToken 206 = .ok (.aload_n 0, 1) := dk_42 (dk_at dksX5_nextToken_8 17 rfl rfl)
theorem dX5_nextToken_207 : decode cX5_nextToken 207 = .ok (.getfield 35, 3) := dk_180 0 35 (dk_at dksX5_nextToken_8 18 rfl rfl)
theorem dX5_nextToken_210 : decode cX5_nextToken 210 = .ok (.aload_n 0, 1) := dk_42 (dk_at dksX5_nextToken_8 21 rfl rfl)
theorem dX5_nextToken_211 : decode cX5_nextToken 211 = .ok (.getfield 222, 3) := dk_180 0 222 (dk_at dksX5_nextToken_9 0 rfl rfl)
theorem dX5_nextToken_214 : decode cX5_nextToken 214 = .ok (.iaload, 1) := dk_46 (dk_at dksX5_nextToken_9 3 rfl rfl)
theorem dX5_nextToken_215 : decode cX5_nextToken 215 = .ok (.i2l, 1) := dk_133 (dk_at dksX5_nextToken_9 4 rfl rfl)
theorem dX5_nextToken_216 : decode cX5_nextToken 216 = .ok (.ladd, 1) := dk_97 (dk_at dksX5_nextToken_9 5 rfl rfl)
theorem dX5_nextToken_217 : decode cX5_nextToken 217 = .ok (.ldc2_w 250, 3) := dk_20 0 250 (dk_at dksX5_nextToken_9 6 rfl rfl)
theorem dX5_nextToken_220 : decode cX5_nextToken 220 = .ok (.lsub, 1) := dk_101 (dk_at dksX5_nextToken_9 9 rfl rfl)
theorem dX5_nextToken_221 : decode cX5_nextToken 221 = .ok (.goto 6, 3) := dk_167 0 6 (dk_at dksX5_nextToken_9 10 rfl rfl)
theorem dX5_nextToken_224 : decode cX5_nextToken 224 = .ok (.ldc2_w 252, 3) := dk_20 0 252 (dk_at dksX5_nextToken_9 13 rfl rfl)
theorem dX5_nextToken_227 : decode cX5_nextToken 227 = .ok (.putfield 235, 3) := dk_181 0 235 (dk_at dksX5_nextToken_9 16 rfl rfl)
theorem dX5_nextToken_230 : decode cX5_nextToken 230 = .ok (.aload_n 0, 1) := dk_42 (dk_at dksX5_nextToken_9 19 rfl rfl)
theorem dX5_nextToken_231 : decode cX5_nextToken 231 = .ok (.dup, 1) := dk_89 (dk_at dksX5_nextToken_9 20 rfl rfl)
theorem dX5_nextToken_232 : decode cX5_nextToken 232 = .ok (.getfield 222, 3) := dk_180 0 222 (dk_at dksX5_nextToken_9 21 rfl rfl)
theorem dX5_nextToken_235 : decode cX5_nextToken 235 = .ok (.iconst 1, 1) := dk_4 (dk_at dksX5_nextToken_10 0 rfl rfl)
theorem dX5_nextToken_236 : decode cX5_nextToken 236 = .ok (.iadd, 1) := dk_96 (dk_at dksX5_nextToken_10 1 rfl rfl)
theorem dX5_nextToken_237 : decode cX5_nextToken 237 = .ok (.putfield 222, 3) := dk_181 0 222 (dk_at dksX5_nextToken_10 2 rfl rfl)
theorem dX5_nextToken_240 : decode cX5_nextToken 240 = .ok (.goto (-91), 3) := dk_167 255 165 (dk_at dksX5_nextToken_10 5 rfl rfl)
theorem dX5_nextToken_243 : decode cX5_nextToken 243 = .ok (.aload_n 0, 1) := dk_42 (dk_at dksX5_nextToken_10 8 rfl rfl)
theorem dX5_nextToken_244 : decode cX5_nextToken 244 = .ok (.getfield 245, 3) := dk_180 0 245 (dk_at dksX5_nextToken_10 9 rfl rfl)
theorem dX5_nextToken_247 : decode cX5_nextToken 247 = .ok (.iconst 2, 1) := dk_5 (dk_at dksX5_nextToken_10 12 rfl rfl)
theorem dX5_nextToken_248 : decode cX5_nextToken 248 = .ok (.if_icmp .ne 87, 3) := dk_160 0 87 (dk_at dksX5_nextToken_10 13 rfl rfl)
theorem dX5_nextToken_251 : decode cX5_nextToken 251 = .ok (.aload_n 0, 1) := dk_42 (dk_at dksX5_nextToken_10 16 rfl rfl)
theorem dX5_nextToken_252 : decode cX5_nextToken 252 = .ok (.getfield 222, 3) := dk_180 0 222 (dk_at dksX5_nextToken_10 17 rfl rfl)
theorem dX5_nextToken_255 : decode cX5_nextToken 255 = .ok (.aload_n 0, 1) := dk_42 (dk_at dksX5_nextToken_10 20 rfl rfl)
theorem dX5_nextToken_256 : decode cX5_nextToken 256 = .ok (.getfield 213, 3) := dk_180 0 213 (dk_at dksX5_nextToken_10 21 rfl rfl)
theorem dX5_nextToken_259 : decode cX5_nextToken 259 = .ok (.if_icmp .ge 76, 3) := dk_162 0 76 (dk_at dksX5_nextToken_11 0 rfl rfl)
theorem dX5_nextToken_262 : decode cX5_nextToken 262 = .ok (.aload_n 0, 1) := dk_42 (dk_at dksX5_nextToken_11 3 rfl rfl)
theorem dX5_nextToken_263 : decode cX5_nextToken 263 = .ok (.getfield 35, 3) := dk_180 0 35 (dk_at dksX5_nextToken_11 4 rfl rfl)
theorem dX5_nextToken_266 : decode cX5_nextToken 266 = .ok (.aload_n 0, 1) := dk_42 (dk_at dksX5_nextToken_11 7 rfl rfl)
theorem dX5_nextToken_267 : decode cX5_nextToken 267 = .ok (.getfield 222, 3) := dk_180 0 222 (dk_at dksX5_nextToken_11 8 rfl rfl)
theorem dX5_nextToken_270 : decode cX5_nextToken 270 = .ok (.iaload, 1) := dk_46 (dk_at dksX5_nextToken_11 11 rfl rfl)
theorem dX5_nextToken_271 : decode cX5_nextToken 271 = .ok (.invokestatic 242, 3) := dk_184 0 242 (dk_at dksX5_nextToken_11 12 rfl rfl)
theorem dX5_nextToken_274 : decode cX5_nextToken 274 = .ok (.ifCond .eq 61, 3) := dk_153 0 61 (dk_at dksX5_nextToken_11 15 rfl rfl)
theorem dX5_nextToken_277 : decode cX5_nextToken 277 = .ok (.aload_n 0, 1) := dk_42 (dk_at dksX5_nextToken_11 18 rfl rfl)
theorem dX5_nextToken_278 : decode cX5_nextToken 278 = .ok (.aload_n 0, 1) := dk_42 (dk_at dksX5_nextToken_11 19 rfl rfl)
theorem dX5_nextToken_279 : decode cX5_nextToken 279 = .ok (.getfield 235, 3) := dk_180 0 235 (dk_at dksX5_nextToken_11 20 rfl rfl)
theorem dX5_nextToken_282 : decode cX5_nextToken 282 = .ok (.ldc2_w 174, 3) := dk_20 0 174 (dk_at dksX5_nextToken_12 0 rfl rfl)
theorem dX5_nextToken_285 : decode cX5_nextToken 285 = .ok (.lcmp, 1) := dk_148 (dk_at dksX5_nextToken_12 3 rfl rfl)
theorem dX5_nextToken_286 : decode cX5_nextToken 286 = .ok (.ifCond .le 10, 3) := dk_158 0 10 (dk_at dksX5_nextToken_12 4 rfl rfl)
theorem dX5_nextToken_289 : decode cX5_nextToken 289 = .ok (.aload_n 0, 1) := dk_42 (dk_at dksX5_nextToken_12 7 rfl rfl)
theorem dX5_nextToken_290 : decode cX5_nextToken 290 = .ok (.getfield 235, 3) := dk_180 0 235 (dk_at dksX5_nextToken_12 8 rfl rfl)
theorem dX5_nextToken_293 : decode cX5_nextToken 293 = .ok (.goto 26, 3) := dk_167 0 26 (dk_at dksX5_nextToken_12 11 rfl rfl)
theorem dX5_nextToken_296 : decode cX5_nextToken 296 = .ok (.aload_n 0, 1) := dk_42 (dk_at dksX5_nextToken_12 14 rfl rfl)
theorem dX5_nextToken_297 : decode cX5_nextToken 297 = .ok (.getfield 235, 3) := dk_180 0 235 (dk_at dksX5_nextToken_12 15 rfl rfl)
theorem dX5_nextToken_300 : decode cX5_nextToken 300 = .ok (.ldc2_w 204, 3) := dk_20 0 204 (dk_at dksX5_nextToken_12 18 rfl rfl)
theorem dX5_nextToken_303 : decode cX5_nextToken 303 = .ok (.lmul, 1) := dk_105 (dk_at dksX5_nextToken_12 21 rfl rfl)
theorem dX5_nextToken_304 : decode cX5_nextToken 304 = .ok (.aload_n 0, 1) := dk_42 (dk_at dksX5_nextToken_12 22 rfl rfl)
theorem dX5_nextToken_305 : decode cX5_nextToken 305 = .ok (.getfield 35, 3) := dk_180 0 35 (dk_at dksX5_nextToken_13 0 rfl rfl)
theorem dX5_nextToken_308 : decode cX5_nextToken 308 = .ok (.aload_n 0, 1) := dk_42 (dk_at dksX5_nextToken_13 3 rfl rfl)
theorem dX5_nextToken_309 : decode cX5_nextToken 309 = .ok (.getfield 222, 3) := dk_180 0 222 (dk_at dksX5_nextToken_13 4 rfl rfl)
theorem dX5_nextToken_312 : decode cX5_nextToken 312 = .ok (.iaload, 1) := dk_46 (dk_at dksX5_nextToken_13 7 rfl rfl)
theorem dX5_nextToken_313 : decode cX5_nextToken 313 = .ok (.i2l, 1) := dk_133 (dk_at dksX5_nextToken_13 8 rfl rfl)
theorem dX5_nextToken_314 : decode cX5_nextToken 314 = .ok (.ladd, 1) := dk_97 (dk_at dksX5_nextToken_13 9 rfl rfl)
theorem dX5_nextToken_315 : decode cX5_nextToken 315 = .ok (.ldc2_w 254, 3) := dk_20 0 254 (dk_at dksX5_nextToken_13 10 rfl rfl)
theorem dX5_nextToken_318 : decode cX5_nextToken 318 = .ok (.lsub, 1) := dk_101 (dk_at dksX5_nextToken_13 13 rfl rfl)
theorem dX5_nextToken_319 : decode cX5_nextToken 319 = .ok (.putfield 235, 3) := dk_181 0 235 (dk_at dksX5_nextToken_13 14 rfl rfl)
theorem dX5_nextToken_322 : decode cX5_nextToken 322 = .ok (.aload_n 0, 1) := dk_42 (dk_at dksX5_nextToken_13 17 rfl rfl)
theorem dX5_nextToken_323 : decode cX5_nextToken 323 = .ok (.dup, 1) := dk_89 (dk_at dksX5_nextToken_13 18 rfl rfl)
theorem dX5_nextToken_324 : decode cX5_nextToken 324 = .ok (.getfield 222, 3) := dk_180 0 222 (dk_at dksX5_nextToken_13 19 rfl rfl)
theorem dX5_nextToken_327 : decode cX5_nextToken 327 = .ok (.iconst 1, 1) := dk_4 (dk_at dksX5_nextToken_13 22 rfl rfl)
theorem dX5_nextToken_328 : decode cX5_nextToken 328 = .ok (.iadd, 1) := dk_96 (dk_at dksX5_nextToken_13 23 rfl rfl)
theorem dX5_nextToken_329 : decode cX5_nextToken 329 = .ok (.putfield 222, 3) := dk_181 0 222 (dk_at dksX5_nextToken_14 0 rfl rfl)
theorem dX5_nextToken_332 : decode cX5_nextToken 332 = .ok (.goto (-89), 3) := dk_167 255 167 (dk_at dksX5_nextToken_14 3 rfl rfl)
theorem dX5_nextToken_335 : decode cX5_nextToken 335 = .ok (.return_, 1) := dk_177 (dk_at dksX5_nextToken_14 6 rfl rfl)
abbrev cX5_isSmall : ByteArray := prog_22_method_32_code
def yX5_isSmall : MethodName := ⟨RX5, "isSmall", "(I)Z"⟩
def dkwX5_isSmall_0 : List UInt8 := [26, 16, 97, 161, 0, 13, 26, 16, 122, 163, 0, 7, 4, 167, 0, 4, 3, 172]
abbrev dktX5_isSmall_0 : List UInt8 := dkwX5_isSmall_0 ++ []
theorem dksX5_isSmall_0 : cX5_isSmall.data.toList.drop 0 = dktX5_isSmall_0 := by decide +kernel
theorem dX5_isSmall_0 : decode cX5_isSmall 0 = .ok (.iload_n 0, 1) := dk_26 (dk_at dksX5_isSmall_0 0 rfl rfl)
theorem dX5_isSmall_1 : decode cX5_isSmall 1 = .ok (.bipush 97, 2) := dk_16 97 (dk_at dksX5_isSmall_0 1 rfl rfl)
theorem dX5_isSmall_3 : decode cX5_isSmall 3 = .ok (.if_icmp .lt 13, 3) := dk_161 0 13 (dk_at dksX5_isSmall_0 3 rfl rfl)
theorem dX5_isSmall_6 : decode cX5_isSmall 6 = .ok (.iload_n 0, 1) := dk_26 (dk_at dksX5_isSmall_0 6 rfl rfl)
theorem dX5_isSmall_7 : decode cX5_isSmall 7 = .ok (.bipush 122, 2) := dk_16 122 (dk_at dksX5_isSmall_0 7 rfl rfl)
theorem dX5_isSmall_9 : decode cX5_isSmall 9 = .ok (.if_icmp .gt 7, 3) := dk_163 0 7 (dk_at dksX5_isSmall_0 9 rfl rfl)
theorem dX5_isSmall_12 : decode cX5_isSmall 12 = .ok (.iconst 1, 1) := dk_4 (dk_at dksX5_isSmall_0 12 rfl rfl)
theorem dX5_isSmall_13 : decode cX5_isSmall 13 = .ok (.goto 4, 3) := dk_167 0 4 (dk_at dksX5_isSmall_0 13 rfl rfl)
theorem dX5_isSmall_16 : decode cX5_isSmall 16 = .ok (.iconst 0, 1) := dk_3 (dk_at dksX5_isSmall_0 16 rfl rfl)
theorem dX5_isSmall_17 : decode cX5_isSmall 17 = .ok (.ireturn, 1) := dk_172 (dk_at dksX5_isSmall_0 17 rfl rfl)
abbrev cX5_isDigit : ByteArray := prog_22_method_33_code
def yX5_isDigit : MethodName := ⟨RX5, "isDigit", "(I)Z"⟩
def dkwX5_isDigit_0 : List UInt8 := [26, 16, 48, 161, 0, 13, 26, 16, 57, 163, 0, 7, 4, 167, 0, 4, 3, 172]
abbrev dktX5_isDigit_0 : List UInt8 := dkwX5_isDigit_0 ++ []
theorem dksX5_isDigit_0 : cX5_isDigit.data.toList.drop 0 = dktX5_isDigit_0 := by decide +kernel
theorem dX5_isDigit_0 : decode cX5_isDigit 0 = .ok (.iload_n 0, 1) := dk_26 (dk_at dksX5_isDigit_0 0 rfl rfl)
theorem dX5_isDigit_1 : decode cX5_isDigit 1 = .ok (.bipush 48, 2) := dk_16 48 (dk_at dksX5_isDigit_0 1 rfl rfl)
theorem dX5_isDigit_3 : decode cX5_isDigit 3 = .ok (.if_icmp .lt 13, 3) := dk_161 0 13 (dk_at dksX5_isDigit_0 3 rfl rfl)
theorem dX5_isDigit_6 : decode cX5_isDigit 6 = .ok (.iload_n 0, 1) := dk_26 (dk_at dksX5_isDigit_0 6 rfl rfl)
theorem dX5_isDigit_7 : decode cX5_isDigit 7 = .ok (.bipush 57, 2) := dk_16 57 (dk_at dksX5_isDigit_0 7 rfl rfl)
theorem dX5_isDigit_9 : decode cX5_isDigit 9 = .ok (.if_icmp .gt 7, 3) := dk_163 0 7 (dk_at dksX5_isDigit_0 9 rfl rfl)
theorem dX5_isDigit_12 : decode cX5_isDigit 12 = .ok (.iconst 1, 1) := dk_4 (dk_at dksX5_isDigit_0 12 rfl rfl)
theorem dX5_isDigit_13 : decode cX5_isDigit 13 = .ok (.goto 4, 3) := dk_167 0 4 (dk_at dksX5_isDigit_0 13 rfl rfl)
theorem dX5_isDigit_16 : decode cX5_isDigit 16 = .ok (.iconst 0, 1) := dk_3 (dk_at dksX5_isDigit_0 16 rfl rfl)
theorem dX5_isDigit_17 : decode cX5_isDigit 17 = .ok (.ireturn, 1) := dk_172 (dk_at dksX5_isDigit_0 17 rfl rfl)
abbrev cX5_readLaw : ByteArray := prog_22_method_58_code
def yX5_readLaw : MethodName := ⟨RX5, "readLaw", "()V"⟩
def dkwX5_readLaw_8 : List UInt8 := [182, 1, 97, 42, 180, 0, 42, 28, 16, 6, 96, 42, 180, 1, 4, 79, 177]
abbrev dktX5_readLaw_8 : List UInt8 := dkwX5_readLaw_8 ++ []
def dkwX5_readLaw_7 : List UInt8 := [180, 0, 225, 154, 0, 22, 42, 20, 1, 100, 182, 1, 25, 153, 0, 12, 42, 182, 0, 229, 42, 4]
abbrev dktX5_readLaw_7 : List UInt8 := dkwX5_readLaw_7 ++ dktX5_readLaw_8
def dkwX5_readLaw_6 : List UInt8 := [180, 0, 42, 28, 7, 96, 42, 180, 1, 4, 79, 42, 180, 0, 42, 28, 8, 96, 42, 180, 1, 4, 79, 42]
abbrev dktX5_readLaw_6 : List UInt8 := dkwX5_readLaw_6 ++ dktX5_readLaw_7
def dkwX5_readLaw_5 : List UInt8 := [180, 0, 42, 28, 6, 96, 42, 180, 1, 4, 79, 27, 6, 159, 0, 8, 42, 3, 182, 1, 97, 42]
abbrev dktX5_readLaw_5 : List UInt8 := dkwX5_readLaw_5 ++ dktX5_readLaw_6
def dkwX5_readLaw_4 : List UInt8 := [132, 3, 1, 167, 255, 238, 42, 180, 0, 42, 28, 27, 79, 42, 89, 180, 1, 94, 4, 96, 181, 1, 94, 42]
abbrev dktX5_readLaw_4 : List UInt8 := dkwX5_readLaw_4 ++ dktX5_readLaw_5
def dkwX5_readLaw_3 : List UInt8 := [180, 1, 94, 104, 61, 3, 62, 29, 16, 8, 162, 0, 18, 42, 180, 0, 42, 28, 29, 96, 3, 79]
abbrev dktX5_readLaw_3 : List UInt8 := dkwX5_readLaw_3 ++ dktX5_readLaw_4
def dkwX5_readLaw_2 : List UInt8 := [162, 0, 7, 4, 167, 0, 4, 3, 182, 1, 0, 42, 180, 0, 225, 153, 0, 4, 177, 16, 8, 42]
abbrev dktX5_readLaw_2 : List UInt8 := dkwX5_readLaw_2 ++ dktX5_readLaw_3
def dkwX5_readLaw_1 : List UInt8 := [167, 0, 4, 27, 60, 132, 2, 1, 167, 255, 229, 42, 27, 2, 159, 0, 16, 42, 180, 1, 94, 16, 12]
abbrev dktX5_readLaw_1 : List UInt8 := dkwX5_readLaw_1 ++ dktX5_readLaw_2
def dkwX5_readLaw_0 : List UInt8 := [2, 60, 3, 61, 28, 7, 162, 0, 28, 42, 42, 180, 0, 98, 28, 47, 182, 1, 25, 153, 0, 7, 28]
abbrev dktX5_readLaw_0 : List UInt8 := dkwX5_readLaw_0 ++ dktX5_readLaw_1
theorem dksX5_readLaw_0 : cX5_readLaw.data.toList.drop 0 = dktX5_readLaw_0 := by decide +kernel
theorem dksX5_readLaw_1 : cX5_readLaw.data.toList.drop 23 = dktX5_readLaw_1 := dk_seg dksX5_readLaw_0 23 rfl rfl
theorem dksX5_readLaw_2 : cX5_readLaw.data.toList.drop 46 = dktX5_readLaw_2 := dk_seg dksX5_readLaw_1 23 rfl rfl
theorem dksX5_readLaw_3 : cX5_readLaw.data.toList.drop 68 = dktX5_readLaw_3 := dk_seg dksX5_readLaw_2 22 rfl rfl
theorem dksX5_readLaw_4 : cX5_readLaw.data.toList.drop 90 = dktX5_readLaw_4 := dk_seg dksX5_readLaw_3 22 rfl rfl
theorem dksX5_readLaw_5 : cX5_readLaw.data.toList.drop 114 = dktX5_readLaw_5 := dk_seg dksX5_readLaw_4 24 rfl rfl
theorem dksX5_readLaw_6 : cX5_readLaw.data.toList.drop 136 = dktX5_readLaw_6 := dk_seg dksX5_readLaw_5 22 rfl rfl
theorem dksX5_readLaw_7 : cX5_readLaw.data.toList.drop 160 = dktX5_readLaw_7 := dk_seg dksX5_readLaw_6 24 rfl rfl
theorem dksX5_readLaw_8 : cX5_readLaw.data.toList.drop 182 = dktX5_readLaw_8 := dk_seg dksX5_readLaw_7 22 rfl rfl
theorem dX5_readLaw_0 : decode cX5_readLaw 0 = .ok (.iconst (-1), 1) := dk_2 (dk_at dksX5_readLaw_0 0 rfl rfl)
theorem dX5_readLaw_1 : decode cX5_readLaw 1 = .ok (.istore_n 1, 1) := dk_60 (dk_at dksX5_readLaw_0 1 rfl rfl)
theorem dX5_readLaw_2 : decode cX5_readLaw 2 = .ok (.iconst 0, 1) := dk_3 (dk_at dksX5_readLaw_0 2 rfl rfl)
theorem dX5_readLaw_3 : decode cX5_readLaw 3 = .ok (.istore_n 2, 1) := dk_61 (dk_at dksX5_readLaw_0 3 rfl rfl)
theorem dX5_readLaw_4 : decode cX5_readLaw 4 = .ok (.iload_n 2, 1) := dk_28 (dk_at dksX5_readLaw_0 4 rfl rfl)
theorem dX5_readLaw_5 : decode cX5_readLaw 5 = .ok (.iconst 4, 1) := dk_7 (dk_at dksX5_readLaw_0 5 rfl rfl)
theorem dX5_readLaw_6 : decode cX5_readLaw 6 = .ok (.if_icmp .ge 28, 3) := dk_162 0 28 (dk_at dksX5_readLaw_0 6 rfl rfl)
theorem dX5_readLaw_9 : decode cX5_readLaw 9 = .ok (.aload_n 0, 1) := dk_42 (dk_at dksX5_readLaw_0 9 rfl rfl)
theorem dX5_readLaw_10 : decode cX5_readLaw 10 = .ok (.aload_n 0, 1) := dk_42 (dk_at dksX5_readLaw_0 10 rfl rfl)
theorem dX5_readLaw_11 : decode cX5_readLaw 11 = .ok (.getfield 98, 3) := dk_180 0 98 (dk_at dksX5_readLaw_0 11 rfl rfl)
theorem dX5_readLaw_14 : decode cX5_readLaw 14 = .ok (.iload_n 2, 1) := dk_28 (dk_at dksX5_readLaw_0 14 rfl rfl)
theorem dX5_readLaw_15 : decode cX5_readLaw 15 = .ok (.laload, 1) := dk_47 (dk_at dksX5_readLaw_0 15 rfl rfl)
theorem dX5_readLaw_16 : decode cX5_readLaw 16 = .ok (.invokevirtual 281, 3) := dk_182 1 25 (dk_at dksX5_readLaw_0 16 rfl rfl)
theorem dX5_readLaw_19 : decode cX5_readLaw 19 = .ok (.ifCond .eq 7, 3) := dk_153 0 7 (dk_at dksX5_readLaw_0 19 rfl rfl)
theorem dX5_readLaw_22 : decode cX5_readLaw 22 = .ok (.iload_n 2, 1) := dk_28 (dk_at dksX5_readLaw_0 22 rfl rfl)
theorem dX5_readLaw_23 : decode cX5_readLaw 23 = .ok (.goto 4, 3) := dk_167 0 4 (dk_at dksX5_readLaw_1 0 rfl rfl)
theorem dX5_readLaw_26 : decode cX5_readLaw 26 = .ok (.iload_n 1, 1) := dk_27 (dk_at dksX5_readLaw_1 3 rfl rfl)
theorem dX5_readLaw_27 : decode cX5_readLaw 27 = .ok (.istore_n 1, 1) := dk_60 (dk_at dksX5_readLaw_1 4 rfl rfl)
theorem dX5_readLaw_28 : decode cX5_readLaw 28 = .ok (.iinc 2 1, 3) := dk_132 2 1 (dk_at dksX5_readLaw_1 5 rfl rfl)
theorem dX5_readLaw_31 : decode cX5_readLaw 31 = .ok (.goto (-27), 3) := dk_167 255 229 (dk_at dksX5_readLaw_1 8 rfl rfl)
theorem dX5_readLaw_34 : decode cX5_readLaw 34 = .ok (.aload_n 0, 1) := dk_42 (dk_at dksX5_readLaw_1 11 rfl rfl)
theorem dX5_readLaw_35 : decode cX5_readLaw 35 = .ok (.iload_n 1, 1) := dk_27 (dk_at dksX5_readLaw_1 12 rfl rfl)
theorem dX5_readLaw_36 : decode cX5_readLaw 36 = .ok (.iconst (-1), 1) := dk_2 (dk_at dksX5_readLaw_1 13 rfl rfl)
theorem dX5_readLaw_37 : decode cX5_readLaw 37 = .ok (.if_icmp .eq 16, 3) := dk_159 0 16 (dk_at dksX5_readLaw_1 14 rfl rfl)
theorem dX5_readLaw_40 : decode cX5_readLaw 40 = .ok (.aload_n 0, 1) := dk_42 (dk_at dksX5_readLaw_1 17 rfl rfl)
theorem dX5_readLaw_41 : decode cX5_readLaw 41 = .ok (.getfield 350, 3) := dk_180 1 94 (dk_at dksX5_readLaw_1 18 rfl rfl)
theorem dX5_readLaw_44 : decode cX5_readLaw 44 = .ok (.bipush 12, 2) := dk_16 12 (dk_at dksX5_readLaw_1 21 rfl rfl)
theorem dX5_readLaw_46 : decode cX5_readLaw 46 = .ok (.if_icmp .ge 7, 3) := dk_162 0 7 (dk_at dksX5_readLaw_2 0 rfl rfl)
theorem dX5_readLaw_49 : decode cX5_readLaw 49 = .ok (.iconst 1, 1) := dk_4 (dk_at dksX5_readLaw_2 3 rfl rfl)
theorem dX5_readLaw_50 : decode cX5_readLaw 50 = .ok (.goto 4, 3) := dk_167 0 4 (dk_at dksX5_readLaw_2 4 rfl rfl)
theorem dX5_readLaw_53 : decode cX5_readLaw 53 = .ok (.iconst 0, 1) := dk_3 (dk_at dksX5_readLaw_2 7 rfl rfl)
theorem dX5_readLaw_54 : decode cX5_readLaw 54 = .ok (.invokevirtual 256, 3) := dk_182 1 0 (dk_at dksX5_readLaw_2 8 rfl rfl)
theorem dX5_readLaw_57 : decode cX5_readLaw 57 = .ok (.aload_n 0, 1) := dk_42 (dk_at dksX5_readLaw_2 11 rfl rfl)
theorem dX5_readLaw_58 : decode cX5_readLaw 58 = .ok (.getfield 225, 3) := dk_180 0 225 (dk_at dksX5_readLaw_2 12 rfl rfl)
theorem dX5_readLaw_61 : decode cX5_readLaw 61 = .ok (.ifCond .eq 4, 3) := dk_153 0 4 (dk_at dksX5_readLaw_2 15 rfl rfl)
theorem dX5_readLaw_64 : decode cX5_readLaw 64 = .ok (.return_, 1) := dk_177 (dk_at dksX5_readLaw_2 18 rfl rfl)
theorem dX5_readLaw_65 : decode cX5_readLaw 65 = .ok (.bipush 8, 2) := dk_16 8 (dk_at dksX5_readLaw_2 19 rfl rfl)
theorem dX5_readLaw_67 : decode cX5_readLaw 67 = .ok (.aload_n 0, 1) := dk_42 (dk_at dksX5_readLaw_2 21 rfl rfl)
theorem dX5_readLaw_68 : decode cX5_readLaw 68 = .ok (.getfield 350, 3) := dk_180 1 94 (dk_at dksX5_readLaw_3 0 rfl rfl)
theorem dX5_readLaw_71 : decode cX5_readLaw 71 = .ok (.imul, 1) := dk_104 (dk_at dksX5_readLaw_3 3 rfl rfl)
theorem dX5_readLaw_72 : decode cX5_readLaw 72 = .ok (.istore_n 2, 1) := dk_61 (dk_at dksX5_readLaw_3 4 rfl rfl)
theorem dX5_readLaw_73 : decode cX5_readLaw 73 = .ok (.iconst 0, 1) := dk_3 (dk_at dksX5_readLaw_3 5 rfl rfl)
theorem dX5_readLaw_74 : decode cX5_readLaw 74 = .ok (.istore_n 3, 1) := dk_62 (dk_at dksX5_readLaw_3 6 rfl rfl)
theorem dX5_readLaw_75 : decode cX5_readLaw 75 = .ok (.iload_n 3, 1) := dk_29 (dk_at dksX5_readLaw_3 7 rfl rfl)
theorem dX5_readLaw_76 : decode cX5_readLaw 76 = .ok (.bipush 8, 2) := dk_16 8 (dk_at dksX5_readLaw_3 8 rfl rfl)
theorem dX5_readLaw_78 : decode cX5_readLaw 78 = .ok (.if_icmp .ge 18, 3) := dk_162 0 18 (dk_at dksX5_readLaw_3 10 rfl rfl)
theorem dX5_readLaw_81 : decode cX5_readLaw 81 = .ok (.aload_n 0, 1) := dk_42 (dk_at dksX5_readLaw_3 13 rfl rfl)
theorem dX5_readLaw_82 : decode cX5_readLaw 82 = .ok (.getfield 42, 3) := dk_180 0 42 (dk_at dksX5_readLaw_3 14 rfl rfl)
theorem dX5_readLaw_85 : decode cX5_readLaw 85 = .ok (.iload_n 2, 1) := dk_28 (dk_at dksX5_readLaw_3 17 rfl rfl)
theorem dX5_readLaw_86 : decode cX5_readLaw 86 = .ok (.iload_n 3, 1) := dk_29 (dk_at dksX5_readLaw_3 18 rfl rfl)
theorem dX5_readLaw_87 : decode cX5_readLaw 87 = .ok (.iadd, 1) := dk_96 (dk_at dksX5_readLaw_3 19 rfl rfl)
theorem dX5_readLaw_88 : decode cX5_readLaw 88 = .ok (.iconst 0, 1) := dk_3 (dk_at dksX5_readLaw_3 20 rfl rfl)
theorem dX5_readLaw_89 : decode cX5_readLaw 89 = .ok (.iastore, 1) := dk_79 (dk_at dksX5_readLaw_3 21 rfl rfl)
theorem dX5_readLaw_90 : decode cX5_readLaw 90 = .ok (.iinc 3 1, 3) := dk_132 3 1 (dk_at dksX5_readLaw_4 0 rfl rfl)
theorem dX5_readLaw_93 : decode cX5_readLaw 93 = .ok (.goto (-18), 3) := dk_167 255 238 (dk_at dksX5_readLaw_4 3 rfl rfl)
theorem dX5_readLaw_96 : decode cX5_readLaw 96 = .ok (.aload_n 0, 1) := dk_42 (dk_at dksX5_readLaw_4 6 rfl rfl)
theorem dX5_readLaw_97 : decode cX5_readLaw 97 = .ok (.getfield 42, 3) := dk_180 0 42 (dk_at dksX5_readLaw_4 7 rfl rfl)
theorem dX5_readLaw_100 : decode cX5_readLaw 100 = .ok (.iload_n 2, 1) := dk_28 (dk_at dksX5_readLaw_4 10 rfl rfl)
theorem dX5_readLaw_101 : decode cX5_readLaw 101 = .ok (.iload_n 1, 1) := dk_27 (dk_at dksX5_readLaw_4 11 rfl rfl)
theorem dX5_readLaw_102 : decode cX5_readLaw 102 = .ok (.iastore, 1) := dk_79 (dk_at dksX5_readLaw_4 12 rfl rfl)
theorem dX5_readLaw_103 : decode cX5_readLaw 103 = .ok (.aload_n 0, 1) := dk_42 (dk_at dksX5_readLaw_4 13 rfl rfl)
theorem dX5_readLaw_104 : decode cX5_readLaw 104 = .ok (.dup, 1) := dk_89 (dk_at dksX5_readLaw_4 14 rfl rfl)
theorem dX5_readLaw_105 : decode cX5_readLaw 105 = .ok (.getfield 350, 3) := dk_180 1 94 (dk_at dksX5_readLaw_4 15 rfl rfl)
theorem dX5_readLaw_108 : decode cX5_readLaw 108 = .ok (.iconst 1, 1) := dk_4 (dk_at dksX5_readLaw_4 18 rfl rfl)
theorem dX5_readLaw_109 : decode cX5_readLaw 109 = .ok (.iadd, 1) := dk_96 (dk_at dksX5_readLaw_4 19 rfl rfl)
theorem dX5_readLaw_110 : decode cX5_readLaw 110 = .ok (.putfield 350, 3) := dk_181 1 94 (dk_at dksX5_readLaw_4 20 rfl rfl)
theorem dX5_readLaw_113 : decode cX5_readLaw 113 = .ok (.aload_n 0, 1) := dk_42 (dk_at dksX5_readLaw_4 23 rfl rfl)
theorem dX5_readLaw_114 : decode cX5_readLaw 114 = .ok (.getfield 42, 3) := dk_180 0 42 (dk_at dksX5_readLaw_5 0 rfl rfl)
theorem dX5_readLaw_117 : decode cX5_readLaw 117 = .ok (.iload_n 2, 1) := dk_28 (dk_at dksX5_readLaw_5 3 rfl rfl)
theorem dX5_readLaw_118 : decode cX5_readLaw 118 = .ok (.iconst 3, 1) := dk_6 (dk_at dksX5_readLaw_5 4 rfl rfl)
theorem dX5_readLaw_119 : decode cX5_readLaw 119 = .ok (.iadd, 1) := dk_96 (dk_at dksX5_readLaw_5 5 rfl rfl)
theorem dX5_readLaw_120 : decode cX5_readLaw 120 = .ok (.aload_n 0, 1) := dk_42 (dk_at dksX5_readLaw_5 6 rfl rfl)
theorem dX5_readLaw_121 : decode cX5_readLaw 121 = .ok (.getfield 260, 3) := dk_180 1 4 (dk_at dksX5_readLaw_5 7 rfl rfl)
theorem dX5_readLaw_124 : decode cX5_readLaw 124 = .ok (.iastore, 1) := dk_79 (dk_at dksX5_readLaw_5 10 rfl rfl)
theorem dX5_readLaw_125 : decode cX5_readLaw 125 = .ok (.iload_n 1, 1) := dk_27 (dk_at dksX5_readLaw_5 11 rfl rfl)
theorem dX5_readLaw_126 : decode cX5_readLaw 126 = .ok (.iconst 3, 1) := dk_6 (dk_at dksX5_readLaw_5 12 rfl rfl)
theorem dX5_readLaw_127 : decode cX5_readLaw 127 = .ok (.if_icmp .eq 8, 3) := dk_159 0 8 (dk_at dksX5_readLaw_5 13 rfl rfl)
theorem dX5_readLaw_130 : decode cX5_readLaw 130 = .ok (.aload_n 0, 1) := dk_42 (dk_at dksX5_readLaw_5 16 rfl rfl)
theorem dX5_readLaw_131 : decode cX5_readLaw 131 = .ok (.iconst 0, 1) := dk_3 (dk_at dksX5_readLaw_5 17 rfl rfl)
theorem dX5_readLaw_132 : decode cX5_readLaw 132 = .ok (.invokevirtual 353, 3) := dk_182 1 97 (dk_at dksX5_readLaw_5 18 rfl rfl)
theorem dX5_readLaw_135 : decode cX5_readLaw 135 = .ok (.aload_n 0, 1) := dk_42 (dk_at dksX5_readLaw_5 21 rfl rfl)
theorem dX5_readLaw_136 : decode cX5_readLaw 136 = .ok (.getfield 42, 3) := dk_180 0 42 (dk_at dksX5_readLaw_6 0 rfl rfl)
theorem dX5_readLaw_139 : decode cX5_readLaw 139 = .ok (.iload_n 2, 1) := dk_28 (dk_at dksX5_readLaw_6 3 rfl rfl)
theorem dX5_readLaw_140 : decode cX5_readLaw 140 = .ok (.iconst 4, 1) := dk_7 (dk_at dksX5_readLaw_6 4 rfl rfl)
theorem dX5_readLaw_141 : decode cX5_readLaw 141 = .ok (.iadd, 1) := dk_96 (dk_at dksX5_readLaw_6 5 rfl rfl)
theorem dX5_readLaw_142 : decode cX5_readLaw 142 = .ok (.aload_n 0, 1) := dk_42 (dk_at dksX5_readLaw_6 6 rfl rfl)
theorem dX5_readLaw_143 : decode cX5_readLaw 143 = .ok (.getfield 260, 3) := dk_180 1 4 (dk_at dksX5_readLaw_6 7 rfl rfl)
theorem dX5_readLaw_146 : decode cX5_readLaw 146 = .ok (.iastore, 1) := dk_79 (dk_at dksX5_readLaw_6 10 rfl rfl)
theorem dX5_readLaw_147 : decode cX5_readLaw 147 = .ok (.aload_n 0, 1) := dk_42 (dk_at dksX5_readLaw_6 11 rfl rfl)
theorem dX5_readLaw_148 : decode cX5_readLaw 148 = .ok (.getfield 42, 3) := dk_180 0 42 (dk_at dksX5_readLaw_6 12 rfl rfl)
theorem dX5_readLaw_151 : decode cX5_readLaw 151 = .ok (.iload_n 2, 1) := dk_28 (dk_at dksX5_readLaw_6 15 rfl rfl)
theorem dX5_readLaw_152 : decode cX5_readLaw 152 = .ok (.iconst 5, 1) := dk_8 (dk_at dksX5_readLaw_6 16 rfl rfl)
theorem dX5_readLaw_153 : decode cX5_readLaw 153 = .ok (.iadd, 1) := dk_96 (dk_at dksX5_readLaw_6 17 rfl rfl)
theorem dX5_readLaw_154 : decode cX5_readLaw 154 = .ok (.aload_n 0, 1) := dk_42 (dk_at dksX5_readLaw_6 18 rfl rfl)
theorem dX5_readLaw_155 : decode cX5_readLaw 155 = .ok (.getfield 260, 3) := dk_180 1 4 (dk_at dksX5_readLaw_6 19 rfl rfl)
theorem dX5_readLaw_158 : decode cX5_readLaw 158 = .ok (.iastore, 1) := dk_79 (dk_at dksX5_readLaw_6 22 rfl rfl)
theorem dX5_readLaw_159 : decode cX5_readLaw 159 = .ok (.aload_n 0, 1) := dk_42 (dk_at dksX5_readLaw_6 23 rfl rfl)
theorem dX5_readLaw_160 : decode cX5_readLaw 160 = .ok (.getfield 225, 3) := dk_180 0 225 (dk_at dksX5_readLaw_7 0 rfl rfl)
theorem dX5_readLaw_163 : decode cX5_readLaw 163 = .ok (.ifCond .ne 22, 3) := dk_154 0 22 (dk_at dksX5_readLaw_7 3 rfl rfl)
theorem dX5_readLaw_166 : decode cX5_readLaw 166 = .ok (.aload_n 0, 1) := dk_42 (dk_at dksX5_readLaw_7 6 rfl rfl)
theorem dX5_readLaw_167 : decode cX5_readLaw 167 = .ok (.ldc2_w 356, 3) := dk_20 1 100 (dk_at dksX5_readLaw_7 7 rfl rfl)
theorem dX5_readLaw_170 : decode cX5_readLaw 170 = .ok (.invokevirtual 281, 3) := dk_182 1 25 (dk_at dksX5_readLaw_7 10 rfl rfl)
theorem dX5_readLaw_173 : decode cX5_readLaw 173 = .ok (.ifCond .eq 12, 3) := dk_153 0 12 (dk_at dksX5_readLaw_7 13 rfl rfl)
theorem dX5_readLaw_176 : decode cX5_readLaw 176 = .ok (.aload_n 0, 1) := dk_42 (dk_at dksX5_readLaw_7 16 rfl rfl)
theorem dX5_readLaw_177 : decode cX5_readLaw 177 = .ok (.invokevirtual 229, 3) := dk_182 0 229 (dk_at dksX5_readLaw_7 17 rfl rfl)
theorem dX5_readLaw_180 : decode cX5_readLaw 180 = .ok (.aload_n 0, 1) := dk_42 (dk_at dksX5_readLaw_7 20 rfl rfl)
theorem dX5_readLaw_181 : decode cX5_readLaw 181 = .ok (.iconst 1, 1) := dk_4 (dk_at dksX5_readLaw_7 21 rfl rfl)
theorem dX5_readLaw_182 : decode cX5_readLaw 182 = .ok (.invokevirtual 353, 3) := dk_182 1 97 (dk_at dksX5_readLaw_8 0 rfl rfl)
theorem dX5_readLaw_185 : decode cX5_readLaw 185 = .ok (.aload_n 0, 1) := dk_42 (dk_at dksX5_readLaw_8 3 rfl rfl)
theorem dX5_readLaw_186 : decode cX5_readLaw 186 = .ok (.getfield 42, 3) := dk_180 0 42 (dk_at dksX5_readLaw_8 4 rfl rfl)
theorem dX5_readLaw_189 : decode cX5_readLaw 189 = .ok (.iload_n 2, 1) := dk_28 (dk_at dksX5_readLaw_8 7 rfl rfl)
theorem dX5_readLaw_190 : decode cX5_readLaw 190 = .ok (.bipush 6, 2) := dk_16 6 (dk_at dksX5_readLaw_8 8 rfl rfl)
theorem dX5_readLaw_192 : decode cX5_readLaw 192 = .ok (.iadd, 1) := dk_96 (dk_at dksX5_readLaw_8 10 rfl rfl)
theorem dX5_readLaw_193 : decode cX5_readLaw 193 = .ok (.aload_n 0, 1) := dk_42 (dk_at dksX5_readLaw_8 11 rfl rfl)
theorem dX5_readLaw_194 : decode cX5_readLaw 194 = .ok (.getfield 260, 3) := dk_180 1 4 (dk_at dksX5_readLaw_8 12 rfl rfl)
theorem dX5_readLaw_197 : decode cX5_readLaw 197 = .ok (.iastore, 1) := dk_79 (dk_at dksX5_readLaw_8 15 rfl rfl)
theorem dX5_readLaw_198 : decode cX5_readLaw 198 = .ok (.return_, 1) := dk_177 (dk_at dksX5_readLaw_8 16 rfl rfl)
abbrev cX5_isWord : ByteArray := prog_22_method_36_code
def yX5_isWord : MethodName := ⟨RX5, "isWord", "(J)Z"⟩
def dkwX5_isWord_0 : List UInt8 := [42, 180, 0, 245, 4, 160, 0, 16, 42, 180, 0, 235, 31, 148, 154, 0, 7, 4, 167, 0, 4, 3, 172]
abbrev dktX5_isWord_0 : List UInt8 := dkwX5_isWord_0 ++ []
theorem dksX5_isWord_0 : cX5_isWord.data.toList.drop 0 = dktX5_isWord_0 := by decide +kernel
theorem dX5_isWord_0 : decode cX5_isWord 0 = .ok (.aload_n 0, 1) := dk_42 (dk_at dksX5_isWord_0 0 rfl rfl)
theorem dX5_isWord_1 : decode cX5_isWord 1 = .ok (.getfield 245, 3) := dk_180 0 245 (dk_at dksX5_isWord_0 1 rfl rfl)
theorem dX5_isWord_4 : decode cX5_isWord 4 = .ok (.iconst 1, 1) := dk_4 (dk_at dksX5_isWord_0 4 rfl rfl)
theorem dX5_isWord_5 : decode cX5_isWord 5 = .ok (.if_icmp .ne 16, 3) := dk_160 0 16 (dk_at dksX5_isWord_0 5 rfl rfl)
theorem dX5_isWord_8 : decode cX5_isWord 8 = .ok (.aload_n 0, 1) := dk_42 (dk_at dksX5_isWord_0 8 rfl rfl)
theorem dX5_isWord_9 : decode cX5_isWord 9 = .ok (.getfield 235, 3) := dk_180 0 235 (dk_at dksX5_isWord_0 9 rfl rfl)
theorem dX5_isWord_12 : decode cX5_isWord 12 = .ok (.lload_n 1, 1) := dk_31 (dk_at dksX5_isWord_0 12 rfl rfl)
theorem dX5_isWord_13 : decode cX5_isWord 13 = .ok (.lcmp, 1) := dk_148 (dk_at dksX5_isWord_0 13 rfl rfl)
theorem dX5_isWord_14 : decode cX5_isWord 14 = .ok (.ifCond .ne 7, 3) := dk_154 0 7 (dk_at dksX5_isWord_0 14 rfl rfl)
theorem dX5_isWord_17 : decode cX5_isWord 17 = .ok (.iconst 1, 1) := dk_4 (dk_at dksX5_isWord_0 17 rfl rfl)
theorem dX5_isWord_18 : decode cX5_isWord 18 = .ok (.goto 4, 3) := dk_167 0 4 (dk_at dksX5_isWord_0 18 rfl rfl)
theorem dX5_isWord_21 : decode cX5_isWord 21 = .ok (.iconst 0, 1) := dk_3 (dk_at dksX5_isWord_0 21 rfl rfl)
theorem dX5_isWord_22 : decode cX5_isWord 22 = .ok (.ireturn, 1) := dk_172 (dk_at dksX5_isWord_0 22 rfl rfl)
abbrev cX5_must : ByteArray := prog_22_method_38_code
def yX5_must : MethodName := ⟨RX5, "must", "(Z)V"⟩
def dkwX5_must_1 : List UInt8 := [42, 180, 0, 225, 154, 0, 7, 42, 182, 0, 229, 177]
abbrev dktX5_must_1 : List UInt8 := dkwX5_must_1 ++ []
def dkwX5_must_0 : List UInt8 := [42, 180, 0, 225, 154, 0, 20, 27, 154, 0, 16, 42, 4, 181, 0, 225, 42, 42, 180, 0, 232, 181, 0, 38]
abbrev dktX5_must_0 : List UInt8 := dkwX5_must_0 ++ dktX5_must_1
theorem dksX5_must_0 : cX5_must.data.toList.drop 0 = dktX5_must_0 := by decide +kernel
theorem dksX5_must_1 : cX5_must.data.toList.drop 24 = dktX5_must_1 := dk_seg dksX5_must_0 24 rfl rfl
theorem dX5_must_0 : decode cX5_must 0 = .ok (.aload_n 0, 1) := dk_42 (dk_at dksX5_must_0 0 rfl rfl)
theorem dX5_must_1 : decode cX5_must 1 = .ok (.getfield 225, 3) := dk_180 0 225 (dk_at dksX5_must_0 1 rfl rfl)
theorem dX5_must_4 : decode cX5_must 4 = .ok (.ifCond .ne 20, 3) := dk_154 0 20 (dk_at dksX5_must_0 4 rfl rfl)
theorem dX5_must_7 : decode cX5_must 7 = .ok (.iload_n 1, 1) := dk_27 (dk_at dksX5_must_0 7 rfl rfl)
theorem dX5_must_8 : decode cX5_must 8 = .ok (.ifCond .ne 16, 3) := dk_154 0 16 (dk_at dksX5_must_0 8 rfl rfl)
theorem dX5_must_11 : decode cX5_must 11 = .ok (.aload_n 0, 1) := dk_42 (dk_at dksX5_must_0 11 rfl rfl)
theorem dX5_must_12 : decode cX5_must 12 = .ok (.iconst 1, 1) := dk_4 (dk_at dksX5_must_0 12 rfl rfl)
theorem dX5_must_13 : decode cX5_must 13 = .ok (.putfield 225, 3) := dk_181 0 225 (dk_at dksX5_must_0 13 rfl rfl)
theorem dX5_must_16 : decode cX5_must 16 = .ok (.aload_n 0, 1) := dk_42 (dk_at dksX5_must_0 16 rfl rfl)
theorem dX5_must_17 : decode cX5_must 17 = .ok (.aload_n 0, 1) := dk_42 (dk_at dksX5_must_0 17 rfl rfl)
theorem dX5_must_18 : decode cX5_must 18 = .ok (.getfield 232, 3) := dk_180 0 232 (dk_at dksX5_must_0 18 rfl rfl)
theorem dX5_must_21 : decode cX5_must 21 = .ok (.putfield 38, 3) := dk_181 0 38 (dk_at dksX5_must_0 21 rfl rfl)
theorem dX5_must_24 : decode cX5_must 24 = .ok (.aload_n 0, 1) := dk_42 (dk_at dksX5_must_1 0 rfl rfl)
theorem dX5_must_25 : decode cX5_must 25 = .ok (.getfield 225, 3) := dk_180 0 225 (dk_at dksX5_must_1 1 rfl rfl)
theorem dX5_must_28 : decode cX5_must 28 = .ok (.ifCond .ne 7, 3) := dk_154 0 7 (dk_at dksX5_must_1 4 rfl rfl)
theorem dX5_must_31 : decode cX5_must 31 = .ok (.aload_n 0, 1) := dk_42 (dk_at dksX5_must_1 7 rfl rfl)
theorem dX5_must_32 : decode cX5_must 32 = .ok (.invokevirtual 229, 3) := dk_182 0 229 (dk_at dksX5_must_1 8 rfl rfl)
theorem dX5_must_35 : decode cX5_must 35 = .ok (.return_, 1) := dk_177 (dk_at dksX5_must_1 11 rfl rfl)
abbrev cX5_readExpression : ByteArray := prog_22_method_55_code
def yX5_readExpression : MethodName := ⟨RX5, "readExpression", "(Z)V"⟩
def dkwX5_readExpression_3 : List UInt8 := [61, 167, 255, 203, 42, 4, 182, 1, 67, 177]
abbrev dktX5_readExpression_3 : List UInt8 := dkwX5_readExpression_3 ++ []
def dkwX5_readExpression_2 : List UInt8 := [42, 182, 1, 64, 167, 0, 20, 28, 6, 160, 0, 11, 42, 27, 182, 1, 84, 167, 0, 7, 42, 182, 1, 88]
abbrev dktX5_readExpression_2 : List UInt8 := dkwX5_readExpression_2 ++ dktX5_readExpression_3
def dkwX5_readExpression_1 : List UInt8 := [154, 0, 52, 28, 7, 159, 0, 47, 28, 154, 0, 10, 42, 182, 1, 81, 167, 0, 32, 28, 4, 160, 0, 10]
abbrev dktX5_readExpression_1 : List UInt8 := dkwX5_readExpression_1 ++ dktX5_readExpression_2
def dkwX5_readExpression_0 : List UInt8 := [42, 3, 181, 1, 7, 42, 3, 181, 1, 29, 27, 153, 0, 7, 3, 167, 0, 4, 4, 61, 42, 180, 0, 225]
abbrev dktX5_readExpression_0 : List UInt8 := dkwX5_readExpression_0 ++ dktX5_readExpression_1
theorem dksX5_readExpression_0 : cX5_readExpression.data.toList.drop 0 = dktX5_readExpression_0 := by decide +kernel
theorem dksX5_readExpression_1 : cX5_readExpression.data.toList.drop 24 = dktX5_readExpression_1 := dk_seg dksX5_readExpression_0 24 rfl rfl
theorem dksX5_readExpression_2 : cX5_readExpression.data.toList.drop 48 = dktX5_readExpression_2 := dk_seg dksX5_readExpression_1 24 rfl rfl
theorem dksX5_readExpression_3 : cX5_readExpression.data.toList.drop 72 = dktX5_readExpression_3 := dk_seg dksX5_readExpression_2 24 rfl rfl
theorem dX5_readExpression_0 : decode cX5_readExpression 0 = .ok (.aload_n 0, 1) := dk_42 (dk_at dksX5_readExpression_0 0 rfl rfl)
theorem dX5_readExpression_1 : decode cX5_readExpression 1 = .ok (.iconst 0, 1) := dk_3 (dk_at dksX5_readExpression_0 1 rfl rfl)
theorem dX5_readExpression_2 : decode cX5_readExpression 2 = .ok (.putfield 263, 3) := dk_181 1 7 (dk_at dksX5_readExpression_0 2 rfl rfl)
theorem dX5_readExpression_5 : decode cX5_readExpression 5 = .ok (.aload_n 0, 1) := dk_42 (dk_at dksX5_readExpression_0 5 rfl rfl)
theorem dX5_readExpression_6 : decode cX5_readExpression 6 = .ok (.iconst 0, 1) := dk_3 (dk_at dksX5_readExpression_0 6 rfl rfl)
theorem dX5_readExpression_7 : decode cX5_readExpression 7 = .ok (.putfield 285, 3) := dk_181 1 29 (dk_at dksX5_readExpression_0 7 rfl rfl)
theorem dX5_readExpression_10 : decode cX5_readExpression 10 = .ok (.iload_n 1, 1) := dk_27 (dk_at dksX5_readExpression_0 10 rfl rfl)
theorem dX5_readExpression_11 : decode cX5_readExpression 11 = .ok (.ifCond .eq 7, 3) := dk_153 0 7 (dk_at dksX5_readExpression_0 11 rfl rfl)
theorem dX5_readExpression_14 : decode cX5_readExpression 14 = .ok (.iconst 0, 1) := dk_3 (dk_at dksX5_readExpression_0 14 rfl rfl)
theorem dX5_readExpression_15 : decode cX5_readExpression 15 = .ok (.goto 4, 3) := dk_167 0 4 (dk_at dksX5_readExpression_0 15 rfl rfl)
theorem dX5_readExpression_18 : decode cX5_readExpression 18 = .ok (.iconst 1, 1) := dk_4 (dk_at dksX5_readExpression_0 18 rfl rfl)
theorem dX5_readExpression_19 : decode cX5_readExpression 19 = .ok (.istore_n 2, 1) := dk_61 (dk_at dksX5_readExpression_0 19 rfl rfl)
theorem dX5_readExpression_20 : decode cX5_readExpression 20 = .ok (.aload_n 0, 1) := dk_42 (dk_at dksX5_readExpression_0 20 rfl rfl)
theorem dX5_readExpression_21 : decode cX5_readExpression 21 = .ok (.getfield 225, 3) := dk_180 0 225 (dk_at dksX5_readExpression_0 21 rfl rfl)
theorem dX5_readExpression_24 : decode cX5_readExpression 24 = .ok (.ifCond .ne 52, 3) := dk_154 0 52 (dk_at dksX5_readExpression_1 0 rfl rfl)
theorem dX5_readExpression_27 : decode cX5_readExpression 27 = .ok (.iload_n 2, 1) := dk_28 (dk_at dksX5_readExpression_1 3 rfl rfl)
theorem dX5_readExpression_28 : decode cX5_readExpression 28 = .ok (.iconst 4, 1) := dk_7 (dk_at dksX5_readExpression_1 4 rfl rfl)
theorem dX5_readExpression_29 : decode cX5_readExpression 29 = .ok (.if_icmp .eq 47, 3) := dk_159 0 47 (dk_at dksX5_readExpression_1 5 rfl rfl)
theorem dX5_readExpression_32 : decode cX5_readExpression 32 = .ok (.iload_n 2, 1) := dk_28 (dk_at dksX5_readExpression_1 8 rfl rfl)
theorem dX5_readExpression_33 : decode cX5_readExpression 33 = .ok (.ifCond .ne 10, 3) := dk_154 0 10 (dk_at dksX5_readExpression_1 9 rfl rfl)
theorem dX5_readExpression_36 : decode cX5_readExpression 36 = .ok (.aload_n 0, 1) := dk_42 (dk_at dksX5_readExpression_1 12 rfl rfl)
theorem dX5_readExpression_37 : decode cX5_readExpression 37 = .ok (.invokevirtual 337, 3) := dk_182 1 81 (dk_at dksX5_readExpression_1 13 rfl rfl)
theorem dX5_readExpression_40 : decode cX5_readExpression 40 = .ok (.goto 32, 3) := dk_167 0 32 (dk_at dksX5_readExpression_1 16 rfl rfl)
theorem dX5_readExpression_43 : decode cX5_readExpression 43 = .ok (.iload_n 2, 1) := dk_28 (dk_at dksX5_readExpression_1 19 rfl rfl)
theorem dX5_readExpression_44 : decode cX5_readExpression 44 = .ok (.iconst 1, 1) := dk_4 (dk_at dksX5_readExpression_1 20 rfl rfl)
theorem dX5_readExpression_45 : decode cX5_readExpression 45 = .ok (.if_icmp .ne 10, 3) := dk_160 0 10 (dk_at dksX5_readExpression_1 21 rfl rfl)
theorem dX5_readExpression_48 : decode cX5_readExpression 48 = .ok (.aload_n 0, 1) := dk_42 (dk_at dksX5_readExpression_2 0 rfl rfl)
theorem dX5_readExpression_49 : decode cX5_readExpression 49 = .ok (.invokevirtual 320, 3) := dk_182 1 64 (dk_at dksX5_readExpression_2 1 rfl rfl)
theorem dX5_readExpression_52 : decode cX5_readExpression 52 = .ok (.goto 20, 3) := dk_167 0 20 (dk_at dksX5_readExpression_2 4 rfl rfl)
theorem dX5_readExpression_55 : decode cX5_readExpression 55 = .ok (.iload_n 2, 1) := dk_28 (dk_at dksX5_readExpression_2 7 rfl rfl)
theorem dX5_readExpression_56 : decode cX5_readExpression 56 = .ok (.iconst 3, 1) := dk_6 (dk_at dksX5_readExpression_2 8 rfl rfl)
theorem dX5_readExpression_57 : decode cX5_readExpression 57 = .ok (.if_icmp .ne 11, 3) := dk_160 0 11 (dk_at dksX5_readExpression_2 9 rfl rfl)
theorem dX5_readExpression_60 : decode cX5_readExpression 60 = .ok (.aload_n 0, 1) := dk_42 (dk_at dksX5_readExpression_2 12 rfl rfl)
theorem dX5_readExpression_61 : decode cX5_readExpression 61 = .ok (.iload_n 1, 1) := dk_27 (dk_at dksX5_readExpression_2 13 rfl rfl)
theorem dX5_readExpression_62 : decode cX5_readExpression 62 = .ok (.invokevirtual 340, 3) := dk_182 1 84 (dk_at dksX5_readExpression_2 14 rfl rfl)
theorem dX5_readExpression_65 : decode cX5_readExpression 65 = .ok (.goto 7, 3) := dk_167 0 7 (dk_at dksX5_readExpression_2 17 rfl rfl)
theorem dX5_readExpression_68 : decode cX5_readExpression 68 = .ok (.aload_n 0, 1) := dk_42 (dk_at dksX5_readExpression_2 20 rfl rfl)
theorem dX5_readExpression_69 : decode cX5_readExpression 69 = .ok (.invokevirtual 344, 3) := dk_182 1 88 (dk_at dksX5_readExpression_2 21 rfl rfl)
theorem dX5_readExpression_72 : decode cX5_readExpression 72 = .ok (.istore_n 2, 1) := dk_61 (dk_at dksX5_readExpression_3 0 rfl rfl)
theorem dX5_readExpression_73 : decode cX5_readExpression 73 = .ok (.goto (-53), 3) := dk_167 255 203 (dk_at dksX5_readExpression_3 1 rfl rfl)
theorem dX5_readExpression_76 : decode cX5_readExpression 76 = .ok (.aload_n 0, 1) := dk_42 (dk_at dksX5_readExpression_3 4 rfl rfl)
theorem dX5_readExpression_77 : decode cX5_readExpression 77 = .ok (.iconst 1, 1) := dk_4 (dk_at dksX5_readExpression_3 5 rfl rfl)
theorem dX5_readExpression_78 : decode cX5_readExpression 78 = .ok (.invokevirtual 323, 3) := dk_182 1 67 (dk_at dksX5_readExpression_3 6 rfl rfl)
theorem dX5_readExpression_81 : decode cX5_readExpression 81 = .ok (.return_, 1) := dk_177 (dk_at dksX5_readExpression_3 9 rfl rfl)
abbrev cX5_readPlain : ByteArray := prog_22_method_52_code
def yX5_readPlain : MethodName := ⟨RX5, "readPlain", "()I"⟩
def dkwX5_readPlain_1 : List UInt8 := [16, 40, 182, 1, 38, 153, 0, 11, 42, 16, 31, 182, 1, 41, 3, 172, 42, 182, 1, 64, 172]
abbrev dktX5_readPlain_1 : List UInt8 := dkwX5_readPlain_1 ++ []
def dkwX5_readPlain_0 : List UInt8 := [42, 20, 1, 62, 182, 1, 25, 153, 0, 16, 42, 16, 28, 3, 182, 1, 32, 42, 182, 0, 229, 3, 172, 42]
abbrev dktX5_readPlain_0 : List UInt8 := dkwX5_readPlain_0 ++ dktX5_readPlain_1
theorem dksX5_readPlain_0 : cX5_readPlain.data.toList.drop 0 = dktX5_readPlain_0 := by decide +kernel
theorem dksX5_readPlain_1 : cX5_readPlain.data.toList.drop 24 = dktX5_readPlain_1 := dk_seg dksX5_readPlain_0 24 rfl rfl
theorem dX5_readPlain_0 : decode cX5_readPlain 0 = .ok (.aload_n 0, 1) := dk_42 (dk_at dksX5_readPlain_0 0 rfl rfl)
theorem dX5_readPlain_1 : decode cX5_readPlain 1 = .ok (.ldc2_w 318, 3) := dk_20 1 62 (dk_at dksX5_readPlain_0 1 rfl rfl)
theorem dX5_readPlain_4 : decode cX5_readPlain 4 = .ok (.invokevirtual 281, 3) := dk_182 1 25 (dk_at dksX5_readPlain_0 4 rfl rfl)
theorem dX5_readPlain_7 : decode cX5_readPlain 7 = .ok (.ifCond .eq 16, 3) := dk_153 0 16 (dk_at dksX5_readPlain_0 7 rfl rfl)
theorem dX5_readPlain_10 : decode cX5_readPlain 10 = .ok (.aload_n 0, 1) := dk_42 (dk_at dksX5_readPlain_0 10 rfl rfl)
theorem dX5_readPlain_11 : decode cX5_readPlain 11 = .ok (.bipush 28, 2) := dk_16 28 (dk_at dksX5_readPlain_0 11 rfl rfl)
theorem dX5_readPlain_13 : decode cX5_readPlain 13 = .ok (.iconst 0, 1) := dk_3 (dk_at dksX5_readPlain_0 13 rfl rfl)
theorem dX5_readPlain_14 : decode cX5_readPlain 14 = .ok (.invokevirtual 288, 3) := dk_182 1 32 (dk_at dksX5_readPlain_0 14 rfl rfl)
theorem dX5_readPlain_17 : decode cX5_readPlain 17 = .ok (.aload_n 0, 1) := dk_42 (dk_at dksX5_readPlain_0 17 rfl rfl)
theorem dX5_readPlain_18 : decode cX5_readPlain 18 = .ok (.invokevirtual 229, 3) := dk_182 0 229 (dk_at dksX5_readPlain_0 18 rfl rfl)
theorem dX5_readPlain_21 : decode cX5_readPlain 21 = .ok (.iconst 0, 1) := dk_3 (dk_at dksX5_readPlain_0 21 rfl rfl)
theorem dX5_readPlain_22 : decode cX5_readPlain 22 = .ok (.ireturn, 1) := dk_172 (dk_at dksX5_readPlain_0 22 rfl rfl)
theorem dX5_readPlain_23 : decode cX5_readPlain 23 = .ok (.aload_n 0, 1) := dk_42 (dk_at dksX5_readPlain_0 23 rfl rfl)
theorem dX5_readPlain_24 : decode cX5_readPlain 24 = .ok (.bipush 40, 2) := dk_16 40 (dk_at dksX5_readPlain_1 0 rfl rfl)
theorem dX5_readPlain_26 : decode cX5_readPlain 26 = .ok (.invokevirtual 294, 3) := dk_182 1 38 (dk_at dksX5_readPlain_1 2 rfl rfl)
theorem dX5_readPlain_29 : decode cX5_readPlain 29 = .ok (.ifCond .eq 11, 3) := dk_153 0 11 (dk_at dksX5_readPlain_1 5 rfl rfl)
theorem dX5_readPlain_32 : decode cX5_readPlain 32 = .ok (.aload_n 0, 1) := dk_42 (dk_at dksX5_readPlain_1 8 rfl rfl)
theorem dX5_readPlain_33 : decode cX5_readPlain 33 = .ok (.bipush 31, 2) := dk_16 31 (dk_at dksX5_readPlain_1 9 rfl rfl)
theorem dX5_readPlain_35 : decode cX5_readPlain 35 = .ok (.invokevirtual 297, 3) := dk_182 1 41 (dk_at dksX5_readPlain_1 11 rfl rfl)
theorem dX5_readPlain_38 : decode cX5_readPlain 38 = .ok (.iconst 0, 1) := dk_3 (dk_at dksX5_readPlain_1 14 rfl rfl)
theorem dX5_readPlain_39 : decode cX5_readPlain 39 = .ok (.ireturn, 1) := dk_172 (dk_at dksX5_readPlain_1 15 rfl rfl)
theorem dX5_readPlain_40 : decode cX5_readPlain 40 = .ok (.aload_n 0, 1) := dk_42 (dk_at dksX5_readPlain_1 16 rfl rfl)
theorem dX5_readPlain_41 : decode cX5_readPlain 41 = .ok (.invokevirtual 320, 3) := dk_182 1 64 (dk_at dksX5_readPlain_1 17 rfl rfl)
theorem dX5_readPlain_44 : decode cX5_readPlain 44 = .ok (.ireturn, 1) := dk_172 (dk_at dksX5_readPlain_1 20 rfl rfl)
abbrev cX5_push : ByteArray := prog_22_method_42_code
def yX5_push : MethodName := ⟨RX5, "push", "(II)V"⟩
def dkwX5_push_1 : List UInt8 := [180, 1, 7, 4, 96, 181, 1, 7, 177]
abbrev dktX5_push_1 : List UInt8 := dkwX5_push_1 ++ []
def dkwX5_push_0 : List UInt8 := [42, 180, 0, 51, 42, 180, 1, 7, 27, 79, 42, 180, 0, 54, 42, 180, 1, 7, 28, 79, 42, 89]
abbrev dktX5_push_0 : List UInt8 := dkwX5_push_0 ++ dktX5_push_1
theorem dksX5_push_0 : cX5_push.data.toList.drop 0 = dktX5_push_0 := by decide +kernel
theorem dksX5_push_1 : cX5_push.data.toList.drop 22 = dktX5_push_1 := dk_seg dksX5_push_0 22 rfl rfl
theorem dX5_push_0 : decode cX5_push 0 = .ok (.aload_n 0, 1) := dk_42 (dk_at dksX5_push_0 0 rfl rfl)
theorem dX5_push_1 : decode cX5_push 1 = .ok (.getfield 51, 3) := dk_180 0 51 (dk_at dksX5_push_0 1 rfl rfl)
theorem dX5_push_4 : decode cX5_push 4 = .ok (.aload_n 0, 1) := dk_42 (dk_at dksX5_push_0 4 rfl rfl)
theorem dX5_push_5 : decode cX5_push 5 = .ok (.getfield 263, 3) := dk_180 1 7 (dk_at dksX5_push_0 5 rfl rfl)
theorem dX5_push_8 : decode cX5_push 8 = .ok (.iload_n 1, 1) := dk_27 (dk_at dksX5_push_0 8 rfl rfl)
theorem dX5_push_9 : decode cX5_push 9 = .ok (.iastore, 1) := dk_79 (dk_at dksX5_push_0 9 rfl rfl)
theorem dX5_push_10 : decode cX5_push 10 = .ok (.aload_n 0, 1) := dk_42 (dk_at dksX5_push_0 10 rfl rfl)
theorem dX5_push_11 : decode cX5_push 11 = .ok (.getfield 54, 3) := dk_180 0 54 (dk_at dksX5_push_0 11 rfl rfl)
theorem dX5_push_14 : decode cX5_push 14 = .ok (.aload_n 0, 1) := dk_42 (dk_at dksX5_push_0 14 rfl rfl)
theorem dX5_push_15 : decode cX5_push 15 = .ok (.getfield 263, 3) := dk_180 1 7 (dk_at dksX5_push_0 15 rfl rfl)
theorem dX5_push_18 : decode cX5_push 18 = .ok (.iload_n 2, 1) := dk_28 (dk_at dksX5_push_0 18 rfl rfl)
theorem dX5_push_19 : decode cX5_push 19 = .ok (.iastore, 1) := dk_79 (dk_at dksX5_push_0 19 rfl rfl)
theorem dX5_push_20 : decode cX5_push 20 = .ok (.aload_n 0, 1) := dk_42 (dk_at dksX5_push_0 20 rfl rfl)
theorem dX5_push_21 : decode cX5_push 21 = .ok (.dup, 1) := dk_89 (dk_at dksX5_push_0 21 rfl rfl)
theorem dX5_push_22 : decode cX5_push 22 = .ok (.getfield 263, 3) := dk_180 1 7 (dk_at dksX5_push_1 0 rfl rfl)
theorem dX5_push_25 : decode cX5_push 25 = .ok (.iconst 1, 1) := dk_4 (dk_at dksX5_push_1 3 rfl rfl)
theorem dX5_push_26 : decode cX5_push 26 = .ok (.iadd, 1) := dk_96 (dk_at dksX5_push_1 4 rfl rfl)
theorem dX5_push_27 : decode cX5_push 27 = .ok (.putfield 263, 3) := dk_181 1 7 (dk_at dksX5_push_1 5 rfl rfl)
theorem dX5_push_30 : decode cX5_push 30 = .ok (.return_, 1) := dk_177 (dk_at dksX5_push_1 8 rfl rfl)
abbrev cX5_isSign : ByteArray := prog_22_method_37_code
def yX5_isSign : MethodName := ⟨RX5, "isSign", "(I)Z"⟩
def dkwX5_isSign_0 : List UInt8 := [42, 180, 0, 245, 6, 160, 0, 17, 42, 180, 0, 235, 27, 133, 148, 154, 0, 7, 4, 167, 0, 4, 3, 172]
abbrev dktX5_isSign_0 : List UInt8 := dkwX5_isSign_0 ++ []
theorem dksX5_isSign_0 : cX5_isSign.data.toList.drop 0 = dktX5_isSign_0 := by decide +kernel
theorem dX5_isSign_0 : decode cX5_isSign 0 = .ok (.aload_n 0, 1) := dk_42 (dk_at dksX5_isSign_0 0 rfl rfl)
theorem dX5_isSign_1 : decode cX5_isSign 1 = .ok (.getfield 245, 3) := dk_180 0 245 (dk_at dksX5_isSign_0 1 rfl rfl)
theorem dX5_isSign_4 : decode cX5_isSign 4 = .ok (.iconst 3, 1) := dk_6 (dk_at dksX5_isSign_0 4 rfl rfl)
theorem dX5_isSign_5 : decode cX5_isSign 5 = .ok (.if_icmp .ne 17, 3) := dk_160 0 17 (dk_at dksX5_isSign_0 5 rfl rfl)
theorem dX5_isSign_8 : decode cX5_isSign 8 = .ok (.aload_n 0, 1) := dk_42 (dk_at dksX5_isSign_0 8 rfl rfl)
theorem dX5_isSign_9 : decode cX5_isSign 9 = .ok (.getfield 235, 3) := dk_180 0 235 (dk_at dksX5_isSign_0 9 rfl rfl)
theorem dX5_isSign_12 : decode cX5_isSign 12 = .ok (.iload_n 1, 1) := dk_27 (dk_at dksX5_isSign_0 12 rfl rfl)
theorem dX5_isSign_13 : decode cX5_isSign 13 = .ok (.i2l, 1) := dk_133 (dk_at dksX5_isSign_0 13 rfl rfl)
theorem dX5_isSign_14 : decode cX5_isSign 14 = .ok (.lcmp, 1) := dk_148 (dk_at dksX5_isSign_0 14 rfl rfl)
theorem dX5_isSign_15 : decode cX5_isSign 15 = .ok (.ifCond .ne 7, 3) := dk_154 0 7 (dk_at dksX5_isSign_0 15 rfl rfl)
theorem dX5_isSign_18 : decode cX5_isSign 18 = .ok (.iconst 1, 1) := dk_4 (dk_at dksX5_isSign_0 18 rfl rfl)
theorem dX5_isSign_19 : decode cX5_isSign 19 = .ok (.goto 4, 3) := dk_167 0 4 (dk_at dksX5_isSign_0 19 rfl rfl)
theorem dX5_isSign_22 : decode cX5_isSign 22 = .ok (.iconst 0, 1) := dk_3 (dk_at dksX5_isSign_0 22 rfl rfl)
theorem dX5_isSign_23 : decode cX5_isSign 23 = .ok (.ireturn, 1) := dk_172 (dk_at dksX5_isSign_0 23 rfl rfl)
abbrev cX5_openBracket : ByteArray := prog_22_method_49_code
def yX5_openBracket : MethodName := ⟨RX5, "openBracket", "(I)V"⟩
def dkwX5_openBracket_1 : List UInt8 := [154, 0, 19, 42, 89, 180, 1, 29, 4, 96, 181, 1, 29, 42, 27, 3, 182, 1, 32, 177]
abbrev dktX5_openBracket_1 : List UInt8 := dkwX5_openBracket_1 ++ []
def dkwX5_openBracket_0 : List UInt8 := [42, 42, 180, 1, 29, 16, 8, 162, 0, 7, 4, 167, 0, 4, 3, 182, 1, 0, 42, 180, 0, 225]
abbrev dktX5_openBracket_0 : List UInt8 := dkwX5_openBracket_0 ++ dktX5_openBracket_1
theorem dksX5_openBracket_0 : cX5_openBracket.data.toList.drop 0 = dktX5_openBracket_0 := by decide +kernel
theorem dksX5_openBracket_1 : cX5_openBracket.data.toList.drop 22 = dktX5_openBracket_1 := dk_seg dksX5_openBracket_0 22 rfl rfl
theorem dX5_openBracket_0 : decode cX5_openBracket 0 = .ok (.aload_n 0, 1) := dk_42 (dk_at dksX5_openBracket_0 0 rfl rfl)
theorem dX5_openBracket_1 : decode cX5_openBracket 1 = .ok (.aload_n 0, 1) := dk_42 (dk_at dksX5_openBracket_0 1 rfl rfl)
theorem dX5_openBracket_2 : decode cX5_openBracket 2 = .ok (.getfield 285, 3) := dk_180 1 29 (dk_at dksX5_openBracket_0 2 rfl rfl)
theorem dX5_openBracket_5 : decode cX5_openBracket 5 = .ok (.bipush 8, 2) := dk_16 8 (dk_at dksX5_openBracket_0 5 rfl rfl)
theorem dX5_openBracket_7 : decode cX5_openBracket 7 = .ok (.if_icmp .ge 7, 3) := dk_162 0 7 (dk_at dksX5_openBracket_0 7 rfl rfl)
theorem dX5_openBracket_10 : decode cX5_openBracket 10 = .ok (.iconst 1, 1) := dk_4 (dk_at dksX5_openBracket_0 10 rfl rfl)
theorem dX5_openBracket_11 : decode cX5_openBracket 11 = .ok (.goto 4, 3) := dk_167 0 4 (dk_at dksX5_openBracket_0 11 rfl rfl)
theorem dX5_openBracket_14 : decode cX5_openBracket 14 = .ok (.iconst 0, 1) := dk_3 (dk_at dksX5_openBracket_0 14 rfl rfl)
theorem dX5_openBracket_15 : decode cX5_openBracket 15 = .ok (.invokevirtual 256, 3) := dk_182 1 0 (dk_at dksX5_openBracket_0 15 rfl rfl)
theorem dX5_openBracket_18 : decode cX5_openBracket 18 = .ok (.aload_n 0, 1) := dk_42 (dk_at dksX5_openBracket_0 18 rfl rfl)
theorem dX5_openBracket_19 : decode cX5_openBracket 19 = .ok (.getfield 225, 3) := dk_180 0 225 (dk_at dksX5_openBracket_0 19 rfl rfl)
theorem dX5_openBracket_22 : decode cX5_openBracket 22 = .ok (.ifCond .ne 19, 3) := dk_154 0 19 (dk_at dksX5_openBracket_1 0 rfl rfl)
theorem dX5_openBracket_25 : decode cX5_openBracket 25 = .ok (.aload_n 0, 1) := dk_42 (dk_at dksX5_openBracket_1 3 rfl rfl)
theorem dX5_openBracket_26 : decode cX5_openBracket 26 = .ok (.dup, 1) := dk_89 (dk_at dksX5_openBracket_1 4 rfl rfl)
theorem dX5_openBracket_27 : decode cX5_openBracket 27 = .ok (.getfield 285, 3) := dk_180 1 29 (dk_at dksX5_openBracket_1 5 rfl rfl)
theorem dX5_openBracket_30 : decode cX5_openBracket 30 = .ok (.iconst 1, 1) := dk_4 (dk_at dksX5_openBracket_1 8 rfl rfl)
theorem dX5_openBracket_31 : decode cX5_openBracket 31 = .ok (.iadd, 1) := dk_96 (dk_at dksX5_openBracket_1 9 rfl rfl)
theorem dX5_openBracket_32 : decode cX5_openBracket 32 = .ok (.putfield 285, 3) := dk_181 1 29 (dk_at dksX5_openBracket_1 10 rfl rfl)
theorem dX5_openBracket_35 : decode cX5_openBracket 35 = .ok (.aload_n 0, 1) := dk_42 (dk_at dksX5_openBracket_1 13 rfl rfl)
theorem dX5_openBracket_36 : decode cX5_openBracket 36 = .ok (.iload_n 1, 1) := dk_27 (dk_at dksX5_openBracket_1 14 rfl rfl)
theorem dX5_openBracket_37 : decode cX5_openBracket 37 = .ok (.iconst 0, 1) := dk_3 (dk_at dksX5_openBracket_1 15 rfl rfl)
theorem dX5_openBracket_38 : decode cX5_openBracket 38 = .ok (.invokevirtual 288, 3) := dk_182 1 32 (dk_at dksX5_openBracket_1 16 rfl rfl)
theorem dX5_openBracket_41 : decode cX5_openBracket 41 = .ok (.return_, 1) := dk_177 (dk_at dksX5_openBracket_1 19 rfl rfl)
abbrev cX5_readPart : ByteArray := prog_22_method_51_code
def yX5_readPart : MethodName := ⟨RX5, "readPart", "()I"⟩
def dkwX5_readPart_6 : List UInt8 := [20, 0, 189, 167, 0, 6, 20, 0, 166, 182, 1, 58, 79, 6, 172]
abbrev dktX5_readPart_6 : List UInt8 := dkwX5_readPart_6 ++ []
def dkwX5_readPart_5 : List UInt8 := [154, 0, 36, 42, 180, 1, 4, 4, 100, 62, 42, 180, 0, 48, 29, 42, 9, 27, 16, 6, 160, 0, 9]
abbrev dktX5_readPart_5 : List UInt8 := dkwX5_readPart_5 ++ dktX5_readPart_6
def dkwX5_readPart_4 : List UInt8 := [167, 0, 4, 3, 182, 1, 54, 42, 180, 1, 44, 153, 0, 48, 27, 7, 161, 0, 43, 42, 180, 0, 225]
abbrev dktX5_readPart_4 : List UInt8 := dkwX5_readPart_4 ++ dktX5_readPart_5
def dkwX5_readPart_3 : List UInt8 := [167, 0, 4, 3, 27, 2, 160, 0, 7, 3, 167, 0, 4, 27, 28, 153, 0, 11, 42, 180, 0, 235, 136]
abbrev dktX5_readPart_3 : List UInt8 := dkwX5_readPart_3 ++ dktX5_readPart_4
def dkwX5_readPart_2 : List UInt8 := [20, 0, 168, 148, 157, 0, 7, 4, 167, 0, 4, 3, 61, 42, 27, 2, 160, 0, 7, 28, 153, 0, 7, 4]
abbrev dktX5_readPart_2 : List UInt8 := dkwX5_readPart_2 ++ dktX5_readPart_3
def dkwX5_readPart_1 : List UInt8 := [42, 182, 1, 47, 167, 0, 7, 42, 182, 1, 51, 60, 42, 180, 0, 245, 5, 160, 0, 18, 42, 180, 0, 235]
abbrev dktX5_readPart_1 : List UInt8 := dkwX5_readPart_1 ++ dktX5_readPart_2
def dkwX5_readPart_0 : List UInt8 := [42, 16, 91, 182, 1, 38, 153, 0, 11, 42, 16, 32, 182, 1, 41, 4, 172, 42, 180, 1, 44, 153, 0, 10]
abbrev dktX5_readPart_0 : List UInt8 := dkwX5_readPart_0 ++ dktX5_readPart_1
theorem dksX5_readPart_0 : cX5_readPart.data.toList.drop 0 = dktX5_readPart_0 := by decide +kernel
theorem dksX5_readPart_1 : cX5_readPart.data.toList.drop 24 = dktX5_readPart_1 := dk_seg dksX5_readPart_0 24 rfl rfl
theorem dksX5_readPart_2 : cX5_readPart.data.toList.drop 48 = dktX5_readPart_2 := dk_seg dksX5_readPart_1 24 rfl rfl
theorem dksX5_readPart_3 : cX5_readPart.data.toList.drop 72 = dktX5_readPart_3 := dk_seg dksX5_readPart_2 24 rfl rfl
theorem dksX5_readPart_4 : cX5_readPart.data.toList.drop 95 = dktX5_readPart_4 := dk_seg dksX5_readPart_3 23 rfl rfl
theorem dksX5_readPart_5 : cX5_readPart.data.toList.drop 118 = dktX5_readPart_5 := dk_seg dksX5_readPart_4 23 rfl rfl
theorem dksX5_readPart_6 : cX5_readPart.data.toList.drop 141 = dktX5_readPart_6 := dk_seg dksX5_readPart_5 23 rfl rfl
theorem dX5_readPart_0 : decode cX5_readPart 0 = .ok (.aload_n 0, 1) := dk_42 (dk_at dksX5_readPart_0 0 rfl rfl)
theorem dX5_readPart_1 : decode cX5_readPart 1 = .ok (.bipush 91, 2) := dk_16 91 (dk_at dksX5_readPart_0 1 rfl rfl)
theorem dX5_readPart_3 : decode cX5_readPart 3 = .ok (.invokevirtual 294, 3) := dk_182 1 38 (dk_at dksX5_readPart_0 3 rfl rfl)
theorem dX5_readPart_6 : decode cX5_readPart 6 = .ok (.ifCond .eq 11, 3) := dk_153 0 11 (dk_at dksX5_readPart_0 6 rfl rfl)
theorem dX5_readPart_9 : decode cX5_readPart 9 = .ok (.aload_n 0, 1) := dk_42 (dk_at dksX5_readPart_0 9 rfl rfl)
theorem dX5_readPart_10 : decode cX5_readPart 10 = .ok (.bipush 32, 2) := dk_16 32 (dk_at dksX5_readPart_0 10 rfl rfl)
theorem dX5_readPart_12 : decode cX5_readPart 12 = .ok (.invokevirtual 297, 3) := dk_182 1 41 (dk_at dksX5_readPart_0 12 rfl rfl)
theorem dX5_readPart_15 : decode cX5_readPart 15 = .ok (.iconst 1, 1) := dk_4 (dk_at dksX5_readPart_0 15 rfl rfl)
theorem dX5_readPart_16 : decode cX5_readPart 16 = .ok (.ireturn, 1) := dk_172 (dk_at dksX5_readPart_0 16 rfl rfl)
theorem dX5_readPart_17 : decode cX5_readPart 17 = .ok (.aload_n 0, 1) := dk_42 (dk_at dksX5_readPart_0 17 rfl rfl)
theorem dX5_readPart_18 : decode cX5_readPart 18 = .ok (.getfield 300, 3) := dk_180 1 44 (dk_at dksX5_readPart_0 18 rfl rfl)
theorem dX5_readPart_21 : decode cX5_readPart 21 = .ok (.ifCond .eq 10, 3) := dk_153 0 10 (dk_at dksX5_readPart_0 21 rfl rfl)
theorem dX5_readPart_24 : decode cX5_readPart 24 = .ok (.aload_n 0, 1) := dk_42 (dk_at dksX5_readPart_1 0 rfl rfl)
theorem dX5_readPart_25 : decode cX5_readPart 25 = .ok (.invokevirtual 303, 3) := dk_182 1 47 (dk_at dksX5_readPart_1 1 rfl rfl)
theorem dX5_readPart_28 : decode cX5_readPart 28 = .ok (.goto 7, 3) := dk_167 0 7 (dk_at dksX5_readPart_1 4 rfl rfl)
theorem dX5_readPart_31 : decode cX5_readPart 31 = .ok (.aload_n 0, 1) := dk_42 (dk_at dksX5_readPart_1 7 rfl rfl)
theorem dX5_readPart_32 : decode cX5_readPart 32 = .ok (.invokevirtual 307, 3) := dk_182 1 51 (dk_at dksX5_readPart_1 8 rfl rfl)
theorem dX5_readPart_35 : decode cX5_readPart 35 = .ok (.istore_n 1, 1) := dk_60 (dk_at dksX5_readPart_1 11 rfl rfl)
theorem dX5_readPart_36 : decode cX5_readPart 36 = .ok (.aload_n 0, 1) := dk_42 (dk_at dksX5_readPart_1 12 rfl rfl)
theorem dX5_readPart_37 : decode cX5_readPart 37 = .ok (.getfield 245, 3) := dk_180 0 245 (dk_at dksX5_readPart_1 13 rfl rfl)
theorem dX5_readPart_40 : decode cX5_readPart 40 = .ok (.iconst 2, 1) := dk_5 (dk_at dksX5_readPart_1 16 rfl rfl)
theorem dX5_readPart_41 : decode cX5_readPart 41 = .ok (.if_icmp .ne 18, 3) := dk_160 0 18 (dk_at dksX5_readPart_1 17 rfl rfl)
theorem dX5_readPart_44 : decode cX5_readPart 44 = .ok (.aload_n 0, 1) := dk_42 (dk_at dksX5_readPart_1 20 rfl rfl)
theorem dX5_readPart_45 : decode cX5_readPart 45 = .ok (.getfield 235, 3) := dk_180 0 235 (dk_at dksX5_readPart_1 21 rfl rfl)
theorem dX5_readPart_48 : decode cX5_readPart 48 = .ok (.ldc2_w 168, 3) := dk_20 0 168 (dk_at dksX5_readPart_2 0 rfl rfl)
theorem dX5_readPart_51 : decode cX5_readPart 51 = .ok (.lcmp, 1) := dk_148 (dk_at dksX5_readPart_2 3 rfl rfl)
theorem dX5_readPart_52 : decode cX5_readPart 52 = .ok (.ifCond .gt 7, 3) := dk_157 0 7 (dk_at dksX5_readPart_2 4 rfl rfl)
theorem dX5_readPart_55 : decode cX5_readPart 55 = .ok (.iconst 1, 1) := dk_4 (dk_at dksX5_readPart_2 7 rfl rfl)
theorem dX5_readPart_56 : decode cX5_readPart 56 = .ok (.goto 4, 3) := dk_167 0 4 (dk_at dksX5_readPart_2 8 rfl rfl)
theorem dX5_readPart_59 : decode cX5_readPart 59 = .ok (.iconst 0, 1) := dk_3 (dk_at dksX5_readPart_2 11 rfl rfl)
theorem dX5_readPart_60 : decode cX5_readPart 60 = .ok (.istore_n 2, 1) := dk_61 (dk_at dksX5_readPart_2 12 rfl rfl)
theorem dX5_readPart_61 : decode cX5_readPart 61 = .ok (.aload_n 0, 1) := dk_42 (dk_at dksX5_readPart_2 13 rfl rfl)
theorem dX5_readPart_62 : decode cX5_readPart 62 = .ok (.iload_n 1, 1) := dk_27 (dk_at dksX5_readPart_2 14 rfl rfl)
theorem dX5_readPart_63 : decode cX5_readPart 63 = .ok (.iconst (-1), 1) := dk_2 (dk_at dksX5_readPart_2 15 rfl rfl)
theorem dX5_readPart_64 : decode cX5_readPart 64 = .ok (.if_icmp .ne 7, 3) := dk_160 0 7 (dk_at dksX5_readPart_2 16 rfl rfl)
theorem dX5_readPart_67 : decode cX5_readPart 67 = .ok (.iload_n 2, 1) := dk_28 (dk_at dksX5_readPart_2 19 rfl rfl)
theorem dX5_readPart_68 : decode cX5_readPart 68 = .ok (.ifCond .eq 7, 3) := dk_153 0 7 (dk_at dksX5_readPart_2 20 rfl rfl)
theorem dX5_readPart_71 : decode cX5_readPart 71 = .ok (.iconst 1, 1) := dk_4 (dk_at dksX5_readPart_2 23 rfl rfl)
theorem dX5_readPart_72 : decode cX5_readPart 72 = .ok (.goto 4, 3) := dk_167 0 4 (dk_at dksX5_readPart_3 0 rfl rfl)
theorem dX5_readPart_75 : decode cX5_readPart 75 = .ok (.iconst 0, 1) := dk_3 (dk_at dksX5_readPart_3 3 rfl rfl)
theorem dX5_readPart_76 : decode cX5_readPart 76 = .ok (.iload_n 1, 1) := dk_27 (dk_at dksX5_readPart_3 4 rfl rfl)
theorem dX5_readPart_77 : decode cX5_readPart 77 = .ok (.iconst (-1), 1) := dk_2 (dk_at dksX5_readPart_3 5 rfl rfl)
theorem dX5_readPart_78 : decode cX5_readPart 78 = .ok (.if_icmp .ne 7, 3) := dk_160 0 7 (dk_at dksX5_readPart_3 6 rfl rfl)
theorem dX5_readPart_81 : decode cX5_readPart 81 = .ok (.iconst 0, 1) := dk_3 (dk_at dksX5_readPart_3 9 rfl rfl)
theorem dX5_readPart_82 : decode cX5_readPart 82 = .ok (.goto 4, 3) := dk_167 0 4 (dk_at dksX5_readPart_3 10 rfl rfl)
theorem dX5_readPart_85 : decode cX5_readPart 85 = .ok (.iload_n 1, 1) := dk_27 (dk_at dksX5_readPart_3 13 rfl rfl)
theorem dX5_readPart_86 : decode cX5_readPart 86 = .ok (.iload_n 2, 1) := dk_28 (dk_at dksX5_readPart_3 14 rfl rfl)
theorem dX5_readPart_87 : decode cX5_readPart 87 = .ok (.ifCond .eq 11, 3) := dk_153 0 11 (dk_at dksX5_readPart_3 15 rfl rfl)
theorem dX5_readPart_90 : decode cX5_readPart 90 = .ok (.aload_n 0, 1) := dk_42 (dk_at dksX5_readPart_3 18 rfl rfl)
theorem dX5_readPart_91 : decode cX5_readPart 91 = .ok (.getfield 235, 3) := dk_180 0 235 (dk_at dksX5_readPart_3 19 rfl rfl)
theorem dX5_readPart_94 : decode cX5_readPart 94 = .ok (.l2i, 1) := dk_136 (dk_at dksX5_readPart_3 22 rfl rfl)
theorem dX5_readPart_95 : decode cX5_readPart 95 = .ok (.goto 4, 3) := dk_167 0 4 (dk_at dksX5_readPart_4 0 rfl rfl)
theorem dX5_readPart_98 : decode cX5_readPart 98 = .ok (.iconst 0, 1) := dk_3 (dk_at dksX5_readPart_4 3 rfl rfl)
theorem dX5_readPart_99 : decode cX5_readPart 99 = .ok (.invokevirtual 310, 3) := dk_182 1 54 (dk_at dksX5_readPart_4 4 rfl rfl)
theorem dX5_readPart_102 : decode cX5_readPart 102 = .ok (.aload_n 0, 1) := dk_42 (dk_at dksX5_readPart_4 7 rfl rfl)
theorem dX5_readPart_103 : decode cX5_readPart 103 = .ok (.getfield 300, 3) := dk_180 1 44 (dk_at dksX5_readPart_4 8 rfl rfl)
theorem dX5_readPart_106 : decode cX5_readPart 106 = .ok (.ifCond .eq 48, 3) := dk_153 0 48 (dk_at dksX5_readPart_4 11 rfl rfl)
theorem dX5_readPart_109 : decode cX5_readPart 109 = .ok (.iload_n 1, 1) := dk_27 (dk_at dksX5_readPart_4 14 rfl rfl)
theorem dX5_readPart_110 : decode cX5_readPart 110 = .ok (.iconst 4, 1) := dk_7 (dk_at dksX5_readPart_4 15 rfl rfl)
theorem dX5_readPart_111 : decode cX5_readPart 111 = .ok (.if_icmp .lt 43, 3) := dk_161 0 43 (dk_at dksX5_readPart_4 16 rfl rfl)
theorem dX5_readPart_114 : decode cX5_readPart 114 = .ok (.aload_n 0, 1) := dk_42 (dk_at dksX5_readPart_4 19 rfl rfl)
theorem dX5_readPart_115 : decode cX5_readPart 115 = .ok (.getfield 225, 3) := dk_180 0 225 (dk_at dksX5_readPart_4 20 rfl rfl)
theorem dX5_readPart_118 : decode cX5_readPart 118 = .ok (.ifCond .ne 36, 3) := dk_154 0 36 (dk_at dksX5_readPart_5 0 rfl rfl)
theorem dX5_readPart_121 : decode cX5_readPart 121 = .ok (.aload_n 0, 1) := dk_42 (dk_at dksX5_readPart_5 3 rfl rfl)
theorem dX5_readPart_122 : decode cX5_readPart 122 = .ok (.getfield 260, 3) := dk_180 1 4 (dk_at dksX5_readPart_5 4 rfl rfl)
theorem dX5_readPart_125 : decode cX5_readPart 125 = .ok (.iconst 1, 1) := dk_4 (dk_at dksX5_readPart_5 7 rfl rfl)
theorem dX5_readPart_126 : decode cX5_readPart 126 = .ok (.isub, 1) := dk_100 (dk_at dksX5_readPart_5 8 rfl rfl)
theorem dX5_readPart_127 : decode cX5_readPart 127 = .ok (.istore_n 3, 1) := dk_62 (dk_at dksX5_readPart_5 9 rfl rfl)
theorem dX5_readPart_128 : decode cX5_readPart 128 = .ok (.aload_n 0, 1) := dk_42 (dk_at dksX5_readPart_5 10 rfl rfl)
theorem dX5_readPart_129 : decode cX5_readPart 129 = .ok (.getfield 48, 3) := dk_180 0 48 (dk_at dksX5_readPart_5 11 rfl rfl)
theorem dX5_readPart_132 : decode cX5_readPart 132 = .ok (.iload_n 3, 1) := dk_29 (dk_at dksX5_readPart_5 14 rfl rfl)
theorem dX5_readPart_133 : decode cX5_readPart 133 = .ok (.aload_n 0, 1) := dk_42 (dk_at dksX5_readPart_5 15 rfl rfl)
theorem dX5_readPart_134 : decode cX5_readPart 134 = .ok (.lconst 0, 1) := dk_9 (dk_at dksX5_readPart_5 16 rfl rfl)
theorem dX5_readPart_135 : decode cX5_readPart 135 = .ok (.iload_n 1, 1) := dk_27 (dk_at dksX5_readPart_5 17 rfl rfl)
theorem dX5_readPart_136 : decode cX5_readPart 136 = .ok (.bipush 6, 2) := dk_16 6 (dk_at dksX5_readPart_5 18 rfl rfl)
theorem dX5_readPart_138 : decode cX5_readPart 138 = .ok (.if_icmp .ne 9, 3) := dk_160 0 9 (dk_at dksX5_readPart_5 20 rfl rfl)
theorem dX5_readPart_141 : decode cX5_readPart 141 = .ok (.ldc2_w 189, 3) := dk_20 0 189 (dk_at dksX5_readPart_6 0 rfl rfl)
theorem dX5_readPart_144 : decode cX5_readPart 144 = .ok (.goto 6, 3) := dk_167 0 6 (dk_at dksX5_readPart_6 3 rfl rfl)
theorem dX5_readPart_147 : decode cX5_readPart 147 = .ok (.ldc2_w 166, 3) := dk_20 0 166 (dk_at dksX5_readPart_6 6 rfl rfl)
theorem dX5_readPart_150 : decode cX5_readPart 150 = .ok (.invokevirtual 314, 3) := dk_182 1 58 (dk_at dksX5_readPart_6 9 rfl rfl)
theorem dX5_readPart_153 : decode cX5_readPart 153 = .ok (.iastore, 1) := dk_79 (dk_at dksX5_readPart_6 12 rfl rfl)
theorem dX5_readPart_154 : decode cX5_readPart 154 = .ok (.iconst 3, 1) := dk_6 (dk_at dksX5_readPart_6 13 rfl rfl)
theorem dX5_readPart_155 : decode cX5_readPart 155 = .ok (.ireturn, 1) := dk_172 (dk_at dksX5_readPart_6 14 rfl rfl)
abbrev cX5_orderPartAt : ByteArray := prog_22_method_48_code
def yX5_orderPartAt : MethodName := ⟨RX5, "orderPartAt", "()I"⟩
def dkwX5_orderPartAt_1 : List UInt8 := [4, 96, 167, 0, 4, 27, 60, 132, 2, 1, 167, 255, 226, 27, 172]
abbrev dktX5_orderPartAt_1 : List UInt8 := dkwX5_orderPartAt_1 ++ []
def dkwX5_orderPartAt_0 : List UInt8 := [2, 60, 3, 61, 28, 16, 6, 162, 0, 30, 42, 42, 180, 0, 89, 28, 47, 182, 1, 25, 153, 0, 9, 28]
abbrev dktX5_orderPartAt_0 : List UInt8 := dkwX5_orderPartAt_0 ++ dktX5_orderPartAt_1
theorem dksX5_orderPartAt_0 : cX5_orderPartAt.data.toList.drop 0 = dktX5_orderPartAt_0 := by decide +kernel
theorem dksX5_orderPartAt_1 : cX5_orderPartAt.data.toList.drop 24 = dktX5_orderPartAt_1 := dk_seg dksX5_orderPartAt_0 24 rfl rfl
theorem dX5_orderPartAt_0 : decode cX5_orderPartAt 0 = .ok (.iconst (-1), 1) := dk_2 (dk_at dksX5_orderPartAt_0 0 rfl rfl)
theorem dX5_orderPartAt_1 : decode cX5_orderPartAt 1 = .ok (.istore_n 1, 1) := dk_60 (dk_at dksX5_orderPartAt_0 1 rfl rfl)
theorem dX5_orderPartAt_2 : decode cX5_orderPartAt 2 = .ok (.iconst 0, 1) := dk_3 (dk_at dksX5_orderPartAt_0 2 rfl rfl)
theorem dX5_orderPartAt_3 : decode cX5_orderPartAt 3 = .ok (.istore_n 2, 1) := dk_61 (dk_at dksX5_orderPartAt_0 3 rfl rfl)
theorem dX5_orderPartAt_4 : decode cX5_orderPartAt 4 = .ok (.iload_n 2, 1) := dk_28 (dk_at dksX5_orderPartAt_0 4 rfl rfl)
theorem dX5_orderPartAt_5 : decode cX5_orderPartAt 5 = .ok (.bipush 6, 2) := dk_16 6 (dk_at dksX5_orderPartAt_0 5 rfl rfl)
theorem dX5_orderPartAt_7 : decode cX5_orderPartAt 7 = .ok (.if_icmp .ge 30, 3) := dk_162 0 30 (dk_at dksX5_orderPartAt_0 7 rfl rfl)
theorem dX5_orderPartAt_10 : decode cX5_orderPartAt 10 = .ok (.aload_n 0, 1) := dk_42 (dk_at dksX5_orderPartAt_0 10 rfl rfl)
theorem dX5_orderPartAt_11 : decode cX5_orderPartAt 11 = .ok (.aload_n 0, 1) := dk_42 (dk_at dksX5_orderPartAt_0 11 rfl rfl)
theorem dX5_orderPartAt_12 : decode cX5_orderPartAt 12 = .ok (.getfield 89, 3) := dk_180 0 89 (dk_at dksX5_orderPartAt_0 12 rfl rfl)
theorem dX5_orderPartAt_15 : decode cX5_orderPartAt 15 = .ok (.iload_n 2, 1) := dk_28 (dk_at dksX5_orderPartAt_0 15 rfl rfl)
theorem dX5_orderPartAt_16 : decode cX5_orderPartAt 16 = .ok (.laload, 1) := dk_47 (dk_at dksX5_orderPartAt_0 16 rfl rfl)
theorem dX5_orderPartAt_17 : decode cX5_orderPartAt 17 = .ok (.invokevirtual 281, 3) := dk_182 1 25 (dk_at dksX5_orderPartAt_0 17 rfl rfl)
theorem dX5_orderPartAt_20 : decode cX5_orderPartAt 20 = .ok (.ifCond .eq 9, 3) := dk_153 0 9 (dk_at dksX5_orderPartAt_0 20 rfl rfl)
theorem dX5_orderPartAt_23 : decode cX5_orderPartAt 23 = .ok (.iload_n 2, 1) := dk_28 (dk_at dksX5_orderPartAt_0 23 rfl rfl)
theorem dX5_orderPartAt_24 : decode cX5_orderPartAt 24 = .ok (.iconst 1, 1) := dk_4 (dk_at dksX5_orderPartAt_1 0 rfl rfl)
theorem dX5_orderPartAt_25 : decode cX5_orderPartAt 25 = .ok (.iadd, 1) := dk_96 (dk_at dksX5_orderPartAt_1 1 rfl rfl)
theorem dX5_orderPartAt_26 : decode cX5_orderPartAt 26 = .ok (.goto 4, 3) := dk_167 0 4 (dk_at dksX5_orderPartAt_1 2 rfl rfl)
theorem dX5_orderPartAt_29 : decode cX5_orderPartAt 29 = .ok (.iload_n 1, 1) := dk_27 (dk_at dksX5_orderPartAt_1 5 rfl rfl)
theorem dX5_orderPartAt_30 : decode cX5_orderPartAt 30 = .ok (.istore_n 1, 1) := dk_60 (dk_at dksX5_orderPartAt_1 6 rfl rfl)
theorem dX5_orderPartAt_31 : decode cX5_orderPartAt 31 = .ok (.iinc 2 1, 3) := dk_132 2 1 (dk_at dksX5_orderPartAt_1 7 rfl rfl)
theorem dX5_orderPartAt_34 : decode cX5_orderPartAt 34 = .ok (.goto (-30), 3) := dk_167 255 226 (dk_at dksX5_orderPartAt_1 10 rfl rfl)
theorem dX5_orderPartAt_37 : decode cX5_orderPartAt 37 = .ok (.iload_n 1, 1) := dk_27 (dk_at dksX5_orderPartAt_1 13 rfl rfl)
theorem dX5_orderPartAt_38 : decode cX5_orderPartAt 38 = .ok (.ireturn, 1) := dk_172 (dk_at dksX5_orderPartAt_1 14 rfl rfl)
abbrev cX5_partAt : ByteArray := prog_22_method_47_code
def yX5_partAt : MethodName := ⟨RX5, "partAt", "()I"⟩
def dkwX5_partAt_1 : List UInt8 := [4, 96, 167, 0, 4, 27, 60, 132, 2, 1, 167, 255, 226, 27, 172]
abbrev dktX5_partAt_1 : List UInt8 := dkwX5_partAt_1 ++ []
def dkwX5_partAt_0 : List UInt8 := [2, 60, 3, 61, 28, 16, 10, 162, 0, 30, 42, 42, 180, 0, 77, 28, 47, 182, 1, 25, 153, 0, 9, 28]
abbrev dktX5_partAt_0 : List UInt8 := dkwX5_partAt_0 ++ dktX5_partAt_1
theorem dksX5_partAt_0 : cX5_partAt.data.toList.drop 0 = dktX5_partAt_0 := by decide +kernel
theorem dksX5_partAt_1 : cX5_partAt.data.toList.drop 24 = dktX5_partAt_1 := dk_seg dksX5_partAt_0 24 rfl rfl
theorem dX5_partAt_0 : decode cX5_partAt 0 = .ok (.iconst (-1), 1) := dk_2 (dk_at dksX5_partAt_0 0 rfl rfl)
theorem dX5_partAt_1 : decode cX5_partAt 1 = .ok (.istore_n 1, 1) := dk_60 (dk_at dksX5_partAt_0 1 rfl rfl)
theorem dX5_partAt_2 : decode cX5_partAt 2 = .ok (.iconst 0, 1) := dk_3 (dk_at dksX5_partAt_0 2 rfl rfl)
theorem dX5_partAt_3 : decode cX5_partAt 3 = .ok (.istore_n 2, 1) := dk_61 (dk_at dksX5_partAt_0 3 rfl rfl)
theorem dX5_partAt_4 : decode cX5_partAt 4 = .ok (.iload_n 2, 1) := dk_28 (dk_at dksX5_partAt_0 4 rfl rfl)
theorem dX5_partAt_5 : decode cX5_partAt 5 = .ok (.bipush 10, 2) := dk_16 10 (dk_at dksX5_partAt_0 5 rfl rfl)
theorem dX5_partAt_7 : decode cX5_partAt 7 = .ok (.if_icmp .ge 30, 3) := dk_162 0 30 (dk_at dksX5_partAt_0 7 rfl rfl)
theorem dX5_partAt_10 : decode cX5_partAt 10 = .ok (.aload_n 0, 1) := dk_42 (dk_at dksX5_partAt_0 10 rfl rfl)
theorem dX5_partAt_11 : decode cX5_partAt 11 = .ok (.aload_n 0, 1) := dk_42 (dk_at dksX5_partAt_0 11 rfl rfl)
theorem dX5_partAt_12 : decode cX5_partAt 12 = .ok (.getfield 77, 3) := dk_180 0 77 (dk_at dksX5_partAt_0 12 rfl rfl)
theorem dX5_partAt_15 : decode cX5_partAt 15 = .ok (.iload_n 2, 1) := dk_28 (dk_at dksX5_partAt_0 15 rfl rfl)
theorem dX5_partAt_16 : decode cX5_partAt 16 = .ok (.laload, 1) := dk_47 (dk_at dksX5_partAt_0 16 rfl rfl)
theorem dX5_partAt_17 : decode cX5_partAt 17 = .ok (.invokevirtual 281, 3) := dk_182 1 25 (dk_at dksX5_partAt_0 17 rfl rfl)
theorem dX5_partAt_20 : decode cX5_partAt 20 = .ok (.ifCond .eq 9, 3) := dk_153 0 9 (dk_at dksX5_partAt_0 20 rfl rfl)
theorem dX5_partAt_23 : decode cX5_partAt 23 = .ok (.iload_n 2, 1) := dk_28 (dk_at dksX5_partAt_0 23 rfl rfl)
theorem dX5_partAt_24 : decode cX5_partAt 24 = .ok (.iconst 1, 1) := dk_4 (dk_at dksX5_partAt_1 0 rfl rfl)
theorem dX5_partAt_25 : decode cX5_partAt 25 = .ok (.iadd, 1) := dk_96 (dk_at dksX5_partAt_1 1 rfl rfl)
theorem dX5_partAt_26 : decode cX5_partAt 26 = .ok (.goto 4, 3) := dk_167 0 4 (dk_at dksX5_partAt_1 2 rfl rfl)
theorem dX5_partAt_29 : decode cX5_partAt 29 = .ok (.iload_n 1, 1) := dk_27 (dk_at dksX5_partAt_1 5 rfl rfl)
theorem dX5_partAt_30 : decode cX5_partAt 30 = .ok (.istore_n 1, 1) := dk_60 (dk_at dksX5_partAt_1 6 rfl rfl)
theorem dX5_partAt_31 : decode cX5_partAt 31 = .ok (.iinc 2 1, 3) := dk_132 2 1 (dk_at dksX5_partAt_1 7 rfl rfl)
theorem dX5_partAt_34 : decode cX5_partAt 34 = .ok (.goto (-30), 3) := dk_167 255 226 (dk_at dksX5_partAt_1 10 rfl rfl)
theorem dX5_partAt_37 : decode cX5_partAt 37 = .ok (.iload_n 1, 1) := dk_27 (dk_at dksX5_partAt_1 13 rfl rfl)
theorem dX5_partAt_38 : decode cX5_partAt 38 = .ok (.ireturn, 1) := dk_172 (dk_at dksX5_partAt_1 14 rfl rfl)
abbrev cX5_leaf : ByteArray := prog_22_method_50_code
def yX5_leaf : MethodName := ⟨RX5, "leaf", "(ZII)V"⟩
def dkwX5_leaf_1 : List UInt8 := [180, 0, 225, 154, 0, 19, 42, 28, 29, 182, 1, 13, 42, 89, 180, 1, 35, 4, 96, 181, 1, 35, 177]
abbrev dktX5_leaf_1 : List UInt8 := dkwX5_leaf_1 ++ []
def dkwX5_leaf_0 : List UInt8 := [42, 27, 153, 0, 16, 42, 180, 1, 35, 16, 50, 162, 0, 7, 4, 167, 0, 4, 3, 182, 1, 0, 42]
abbrev dktX5_leaf_0 : List UInt8 := dkwX5_leaf_0 ++ dktX5_leaf_1
theorem dksX5_leaf_0 : cX5_leaf.data.toList.drop 0 = dktX5_leaf_0 := by decide +kernel
theorem dksX5_leaf_1 : cX5_leaf.data.toList.drop 23 = dktX5_leaf_1 := dk_seg dksX5_leaf_0 23 rfl rfl
theorem dX5_leaf_0 : decode cX5_leaf 0 = .ok (.aload_n 0, 1) := dk_42 (dk_at dksX5_leaf_0 0 rfl rfl)
theorem dX5_leaf_1 : decode cX5_leaf 1 = .ok (.iload_n 1, 1) := dk_27 (dk_at dksX5_leaf_0 1 rfl rfl)
theorem dX5_leaf_2 : decode cX5_leaf 2 = .ok (.ifCond .eq 16, 3) := dk_153 0 16 (dk_at dksX5_leaf_0 2 rfl rfl)
theorem dX5_leaf_5 : decode cX5_leaf 5 = .ok (.aload_n 0, 1) := dk_42 (dk_at dksX5_leaf_0 5 rfl rfl)
theorem dX5_leaf_6 : decode cX5_leaf 6 = .ok (.getfield 291, 3) := dk_180 1 35 (dk_at dksX5_leaf_0 6 rfl rfl)
theorem dX5_leaf_9 : decode cX5_leaf 9 = .ok (.bipush 50, 2) := dk_16 50 (dk_at dksX5_leaf_0 9 rfl rfl)
theorem dX5_leaf_11 : decode cX5_leaf 11 = .ok (.if_icmp .ge 7, 3) := dk_162 0 7 (dk_at dksX5_leaf_0 11 rfl rfl)
theorem dX5_leaf_14 : decode cX5_leaf 14 = .ok (.iconst 1, 1) := dk_4 (dk_at dksX5_leaf_0 14 rfl rfl)
theorem dX5_leaf_15 : decode cX5_leaf 15 = .ok (.goto 4, 3) := dk_167 0 4 (dk_at dksX5_leaf_0 15 rfl rfl)
theorem dX5_leaf_18 : decode cX5_leaf 18 = .ok (.iconst 0, 1) := dk_3 (dk_at dksX5_leaf_0 18 rfl rfl)
theorem dX5_leaf_19 : decode cX5_leaf 19 = .ok (.invokevirtual 256, 3) := dk_182 1 0 (dk_at dksX5_leaf_0 19 rfl rfl)
theorem dX5_leaf_22 : decode cX5_leaf 22 = .ok (.aload_n 0, 1) := dk_42 (dk_at dksX5_leaf_0 22 rfl rfl)
theorem dX5_leaf_23 : decode cX5_leaf 23 = .ok (.getfield 225, 3) := dk_180 0 225 (dk_at dksX5_leaf_1 0 rfl rfl)
theorem dX5_leaf_26 : decode cX5_leaf 26 = .ok (.ifCond .ne 19, 3) := dk_154 0 19 (dk_at dksX5_leaf_1 3 rfl rfl)
theorem dX5_leaf_29 : decode cX5_leaf 29 = .ok (.aload_n 0, 1) := dk_42 (dk_at dksX5_leaf_1 6 rfl rfl)
theorem dX5_leaf_30 : decode cX5_leaf 30 = .ok (.iload_n 2, 1) := dk_28 (dk_at dksX5_leaf_1 7 rfl rfl)
theorem dX5_leaf_31 : decode cX5_leaf 31 = .ok (.iload_n 3, 1) := dk_29 (dk_at dksX5_leaf_1 8 rfl rfl)
theorem dX5_leaf_32 : decode cX5_leaf 32 = .ok (.invokevirtual 269, 3) := dk_182 1 13 (dk_at dksX5_leaf_1 9 rfl rfl)
theorem dX5_leaf_35 : decode cX5_leaf 35 = .ok (.aload_n 0, 1) := dk_42 (dk_at dksX5_leaf_1 12 rfl rfl)
theorem dX5_leaf_36 : decode cX5_leaf 36 = .ok (.dup, 1) := dk_89 (dk_at dksX5_leaf_1 13 rfl rfl)
theorem dX5_leaf_37 : decode cX5_leaf 37 = .ok (.getfield 291, 3) := dk_180 1 35 (dk_at dksX5_leaf_1 14 rfl rfl)
theorem dX5_leaf_40 : decode cX5_leaf 40 = .ok (.iconst 1, 1) := dk_4 (dk_at dksX5_leaf_1 17 rfl rfl)
theorem dX5_leaf_41 : decode cX5_leaf 41 = .ok (.iadd, 1) := dk_96 (dk_at dksX5_leaf_1 18 rfl rfl)
theorem dX5_leaf_42 : decode cX5_leaf 42 = .ok (.putfield 291, 3) := dk_181 1 35 (dk_at dksX5_leaf_1 19 rfl rfl)
theorem dX5_leaf_45 : decode cX5_leaf 45 = .ok (.return_, 1) := dk_177 (dk_at dksX5_leaf_1 22 rfl rfl)
abbrev cX5_emit : ByteArray := prog_22_method_41_code
def yX5_emit : MethodName := ⟨RX5, "emit", "(II)V"⟩
def dkwX5_emit_1 : List UInt8 := [180, 1, 4, 4, 96, 181, 1, 4, 177]
abbrev dktX5_emit_1 : List UInt8 := dkwX5_emit_1 ++ []
def dkwX5_emit_0 : List UInt8 := [42, 180, 0, 45, 42, 180, 1, 4, 27, 79, 42, 180, 0, 48, 42, 180, 1, 4, 28, 79, 42, 89]
abbrev dktX5_emit_0 : List UInt8 := dkwX5_emit_0 ++ dktX5_emit_1
theorem dksX5_emit_0 : cX5_emit.data.toList.drop 0 = dktX5_emit_0 := by decide +kernel
theorem dksX5_emit_1 : cX5_emit.data.toList.drop 22 = dktX5_emit_1 := dk_seg dksX5_emit_0 22 rfl rfl
theorem dX5_emit_0 : decode cX5_emit 0 = .ok (.aload_n 0, 1) := dk_42 (dk_at dksX5_emit_0 0 rfl rfl)
theorem dX5_emit_1 : decode cX5_emit 1 = .ok (.getfield 45, 3) := dk_180 0 45 (dk_at dksX5_emit_0 1 rfl rfl)
theorem dX5_emit_4 : decode cX5_emit 4 = .ok (.aload_n 0, 1) := dk_42 (dk_at dksX5_emit_0 4 rfl rfl)
theorem dX5_emit_5 : decode cX5_emit 5 = .ok (.getfield 260, 3) := dk_180 1 4 (dk_at dksX5_emit_0 5 rfl rfl)
theorem dX5_emit_8 : decode cX5_emit 8 = .ok (.iload_n 1, 1) := dk_27 (dk_at dksX5_emit_0 8 rfl rfl)
theorem dX5_emit_9 : decode cX5_emit 9 = .ok (.iastore, 1) := dk_79 (dk_at dksX5_emit_0 9 rfl rfl)
theorem dX5_emit_10 : decode cX5_emit 10 = .ok (.aload_n 0, 1) := dk_42 (dk_at dksX5_emit_0 10 rfl rfl)
theorem dX5_emit_11 : decode cX5_emit 11 = .ok (.getfield 48, 3) := dk_180 0 48 (dk_at dksX5_emit_0 11 rfl rfl)
theorem dX5_emit_14 : decode cX5_emit 14 = .ok (.aload_n 0, 1) := dk_42 (dk_at dksX5_emit_0 14 rfl rfl)
theorem dX5_emit_15 : decode cX5_emit 15 = .ok (.getfield 260, 3) := dk_180 1 4 (dk_at dksX5_emit_0 15 rfl rfl)
theorem dX5_emit_18 : decode cX5_emit 18 = .ok (.iload_n 2, 1) := dk_28 (dk_at dksX5_emit_0 18 rfl rfl)
theorem dX5_emit_19 : decode cX5_emit 19 = .ok (.iastore, 1) := dk_79 (dk_at dksX5_emit_0 19 rfl rfl)
theorem dX5_emit_20 : decode cX5_emit 20 = .ok (.aload_n 0, 1) := dk_42 (dk_at dksX5_emit_0 20 rfl rfl)
theorem dX5_emit_21 : decode cX5_emit 21 = .ok (.dup, 1) := dk_89 (dk_at dksX5_emit_0 21 rfl rfl)
theorem dX5_emit_22 : decode cX5_emit 22 = .ok (.getfield 260, 3) := dk_180 1 4 (dk_at dksX5_emit_1 0 rfl rfl)
theorem dX5_emit_25 : decode cX5_emit 25 = .ok (.iconst 1, 1) := dk_4 (dk_at dksX5_emit_1 3 rfl rfl)
theorem dX5_emit_26 : decode cX5_emit 26 = .ok (.iadd, 1) := dk_96 (dk_at dksX5_emit_1 4 rfl rfl)
theorem dX5_emit_27 : decode cX5_emit 27 = .ok (.putfield 260, 3) := dk_181 1 4 (dk_at dksX5_emit_1 5 rfl rfl)
theorem dX5_emit_30 : decode cX5_emit 30 = .ok (.return_, 1) := dk_177 (dk_at dksX5_emit_1 8 rfl rfl)
abbrev cX5_number : ByteArray := prog_22_method_39_code
def yX5_number : MethodName := ⟨RX5, "number", "(JJ)I"⟩
def dkwX5_number_1 : List UInt8 := [184, 0, 162, 153, 0, 7, 4, 167, 0, 4, 3, 182, 1, 0, 21, 5, 172]
abbrev dktX5_number_1 : List UInt8 := dkwX5_number_1 ++ []
def dkwX5_number_0 : List UInt8 := [42, 180, 0, 235, 136, 54, 5, 42, 42, 180, 0, 245, 5, 160, 0, 19, 42, 180, 0, 235, 31, 33]
abbrev dktX5_number_0 : List UInt8 := dkwX5_number_0 ++ dktX5_number_1
theorem dksX5_number_0 : cX5_number.data.toList.drop 0 = dktX5_number_0 := by decide +kernel
theorem dksX5_number_1 : cX5_number.data.toList.drop 22 = dktX5_number_1 := dk_seg dksX5_number_0 22 rfl rfl
theorem dX5_number_0 : decode cX5_number 0 = .ok (.aload_n 0, 1) := dk_42 (dk_at dksX5_number_0 0 rfl rfl)
theorem dX5_number_1 : decode cX5_number 1 = .ok (.getfield 235, 3) := dk_180 0 235 (dk_at dksX5_number_0 1 rfl rfl)
theorem dX5_number_4 : decode cX5_number 4 = .ok (.l2i, 1) := dk_136 (dk_at dksX5_number_0 4 rfl rfl)
theorem dX5_number_5 : decode cX5_number 5 = .ok (.istore 5, 2) := dk_54 5 (dk_at dksX5_number_0 5 rfl rfl)
theorem dX5_number_7 : decode cX5_number 7 = .ok (.aload_n 0, 1) := dk_42 (dk_at dksX5_number_0 7 rfl rfl)
theorem dX5_number_8 : decode cX5_number 8 = .ok (.aload_n 0, 1) := dk_42 (dk_at dksX5_number_0 8 rfl rfl)
theorem dX5_number_9 : decode cX5_number 9 = .ok (.getfield 245, 3) := dk_180 0 245 (dk_at dksX5_number_0 9 rfl rfl)
theorem dX5_number_12 : decode cX5_number 12 = .ok (.iconst 2, 1) := dk_5 (dk_at dksX5_number_0 12 rfl rfl)
theorem dX5_number_13 : decode cX5_number 13 = .ok (.if_icmp .ne 19, 3) := dk_160 0 19 (dk_at dksX5_number_0 13 rfl rfl)
theorem dX5_number_16 : decode cX5_number 16 = .ok (.aload_n 0, 1) := dk_42 (dk_at dksX5_number_0 16 rfl rfl)
theorem dX5_number_17 : decode cX5_number 17 = .ok (.getfield 235, 3) := dk_180 0 235 (dk_at dksX5_number_0 17 rfl rfl)
theorem dX5_number_20 : decode cX5_number 20 = .ok (.lload_n 1, 1) := dk_31 (dk_at dksX5_number_0 20 rfl rfl)
theorem dX5_number_21 : decode cX5_number 21 = .ok (.lload_n 3, 1) := dk_33 (dk_at dksX5_number_0 21 rfl rfl)
theorem dX5_number_22 : decode cX5_number 22 = .ok (.invokestatic 162, 3) := dk_184 0 162 (dk_at dksX5_number_1 0 rfl rfl)
theorem dX5_number_25 : decode cX5_number 25 = .ok (.ifCond .eq 7, 3) := dk_153 0 7 (dk_at dksX5_number_1 3 rfl rfl)
theorem dX5_number_28 : decode cX5_number 28 = .ok (.iconst 1, 1) := dk_4 (dk_at dksX5_number_1 6 rfl rfl)
theorem dX5_number_29 : decode cX5_number 29 = .ok (.goto 4, 3) := dk_167 0 4 (dk_at dksX5_number_1 7 rfl rfl)
theorem dX5_number_32 : decode cX5_number 32 = .ok (.iconst 0, 1) := dk_3 (dk_at dksX5_number_1 10 rfl rfl)
theorem dX5_number_33 : decode cX5_number 33 = .ok (.invokevirtual 256, 3) := dk_182 1 0 (dk_at dksX5_number_1 11 rfl rfl)
theorem dX5_number_36 : decode cX5_number 36 = .ok (.iload 5, 2) := dk_21 5 (dk_at dksX5_number_1 14 rfl rfl)
theorem dX5_number_38 : decode cX5_number 38 = .ok (.ireturn, 1) := dk_172 (dk_at dksX5_number_1 16 rfl rfl)
abbrev cX5_behindSum : ByteArray := prog_22_method_53_code
def yX5_behindSum : MethodName := ⟨RX5, "behindSum", "(Z)I"⟩
def dkwX5_behindSum_10 : List UInt8 := [154, 0, 14, 42, 8, 182, 1, 67, 42, 28, 3, 182, 1, 32, 4, 172]
abbrev dktX5_behindSum_10 : List UInt8 := dkwX5_behindSum_10 ++ []
def dkwX5_behindSum_9 : List UInt8 := [160, 0, 12, 42, 16, 61, 182, 1, 38, 153, 0, 7, 4, 167, 0, 4, 3, 182, 1, 0, 42, 180, 0, 225]
abbrev dktX5_behindSum_9 : List UInt8 := dkwX5_behindSum_9 ++ dktX5_behindSum_10
def dkwX5_behindSum_8 : List UInt8 := [167, 0, 19, 42, 16, 62, 182, 1, 38, 153, 0, 8, 16, 26, 167, 0, 5, 16, 27, 61, 42, 28, 16, 27]
abbrev dktX5_behindSum_8 : List UInt8 := dkwX5_behindSum_8 ++ dktX5_behindSum_9
def dkwX5_behindSum_7 : List UInt8 := [7, 172, 42, 182, 1, 73, 153, 0, 5, 5, 172, 42, 16, 60, 182, 1, 38, 153, 0, 8, 16, 25]
abbrev dktX5_behindSum_7 : List UInt8 := dkwX5_behindSum_7 ++ dktX5_behindSum_8
def dkwX5_behindSum_6 : List UInt8 := [181, 1, 7, 42, 89, 180, 1, 29, 4, 100, 181, 1, 29, 6, 172, 29, 2, 160, 0, 9, 27, 154, 0, 5]
abbrev dktX5_behindSum_6 : List UInt8 := dkwX5_behindSum_6 ++ dktX5_behindSum_7
def dkwX5_behindSum_5 : List UInt8 := [182, 1, 0, 42, 180, 0, 225, 154, 0, 28, 42, 8, 182, 1, 67, 42, 89, 180, 1, 7, 4, 100]
abbrev dktX5_behindSum_5 : List UInt8 := dkwX5_behindSum_5 ++ dktX5_behindSum_6
def dkwX5_behindSum_4 : List UInt8 := [42, 182, 0, 229, 4, 172, 42, 182, 1, 70, 62, 29, 16, 32, 160, 0, 47, 42, 42, 16, 93, 182, 1, 38]
abbrev dktX5_behindSum_4 : List UInt8 := dkwX5_behindSum_4 ++ dktX5_behindSum_5
def dkwX5_behindSum_3 : List UInt8 := [167, 0, 4, 2, 61, 28, 2, 159, 0, 23, 42, 28, 184, 1, 10, 182, 1, 67, 42, 28, 3, 182, 1, 32]
abbrev dktX5_behindSum_3 : List UInt8 := dkwX5_behindSum_3 ++ dktX5_behindSum_4
def dkwX5_behindSum_2 : List UInt8 := [182, 1, 38, 153, 0, 8, 16, 23, 167, 0, 18, 42, 16, 37, 182, 1, 38, 153, 0, 8, 16, 24]
abbrev dktX5_behindSum_2 : List UInt8 := dkwX5_behindSum_2 ++ dktX5_behindSum_3
def dkwX5_behindSum_1 : List UInt8 := [16, 21, 167, 0, 46, 42, 16, 42, 182, 1, 38, 153, 0, 8, 16, 22, 167, 0, 32, 42, 16, 47]
abbrev dktX5_behindSum_1 : List UInt8 := dkwX5_behindSum_1 ++ dktX5_behindSum_2
def dkwX5_behindSum_0 : List UInt8 := [42, 16, 43, 182, 1, 38, 153, 0, 8, 16, 20, 167, 0, 60, 42, 16, 45, 182, 1, 38, 153, 0, 8]
abbrev dktX5_behindSum_0 : List UInt8 := dkwX5_behindSum_0 ++ dktX5_behindSum_1
theorem dksX5_behindSum_0 : cX5_behindSum.data.toList.drop 0 = dktX5_behindSum_0 := by decide +kernel
theorem dksX5_behindSum_1 : cX5_behindSum.data.toList.drop 23 = dktX5_behindSum_1 := dk_seg dksX5_behindSum_0 23 rfl rfl
theorem dksX5_behindSum_2 : cX5_behindSum.data.toList.drop 45 = dktX5_behindSum_2 := dk_seg dksX5_behindSum_1 22 rfl rfl
theorem dksX5_behindSum_3 : cX5_behindSum.data.toList.drop 67 = dktX5_behindSum_3 := dk_seg dksX5_behindSum_2 22 rfl rfl
theorem dksX5_behindSum_4 : cX5_behindSum.data.toList.drop 91 = dktX5_behindSum_4 := dk_seg dksX5_behindSum_3 24 rfl rfl
theorem dksX5_behindSum_5 : cX5_behindSum.data.toList.drop 115 = dktX5_behindSum_5 := dk_seg dksX5_behindSum_4 24 rfl rfl
theorem dksX5_behindSum_6 : cX5_behindSum.data.toList.drop 137 = dktX5_behindSum_6 := dk_seg dksX5_behindSum_5 22 rfl rfl
theorem dksX5_behindSum_7 : cX5_behindSum.data.toList.drop 161 = dktX5_behindSum_7 := dk_seg dksX5_behindSum_6 24 rfl rfl
theorem dksX5_behindSum_8 : cX5_behindSum.data.toList.drop 183 = dktX5_behindSum_8 := dk_seg dksX5_behindSum_7 22 rfl rfl
theorem dksX5_behindSum_9 : cX5_behindSum.data.toList.drop 207 = dktX5_behindSum_9 := dk_seg dksX5_behindSum_8 24 rfl rfl
theorem dksX5_behindSum_10 : cX5_behindSum.data.toList.drop 231 = dktX5_behindSum_10 := dk_seg dksX5_behindSum_9 24 rfl rfl
theorem dX5_behindSum_0 : decode cX5_behindSum 0 = .ok (.aload_n 0, 1) := dk_42 (dk_at dksX5_behindSum_0 0 rfl rfl)
theorem dX5_behindSum_1 : decode cX5_behindSum 1 = .ok (.bipush 43, 2) := dk_16 43 (dk_at dksX5_behindSum_0 1 rfl rfl)
theorem dX5_behindSum_3 : decode cX5_behindSum 3 = .ok (.invokevirtual 294, 3) := dk_182 1 38 (dk_at dksX5_behindSum_0 3 rfl rfl)
theorem dX5_behindSum_6 : decode cX5_behindSum 6 = .ok (.ifCond .eq 8, 3) := dk_153 0 8 (dk_at dksX5_behindSum_0 6 rfl rfl)
theorem dX5_behindSum_9 : decode cX5_behindSum 9 = .ok (.bipush 20, 2) := dk_16 20 (dk_at dksX5_behindSum_0 9 rfl rfl)
theorem dX5_behindSum_11 : decode cX5_behindSum 11 = .ok (.goto 60, 3) := dk_167 0 60 (dk_at dksX5_behindSum_0 11 rfl rfl)
theorem dX5_behindSum_14 : decode cX5_behindSum 14 = .ok (.aload_n 0, 1) := dk_42 (dk_at dksX5_behindSum_0 14 rfl rfl)
theorem dX5_behindSum_15 : decode cX5_behindSum 15 = .ok (.bipush 45, 2) := dk_16 45 (dk_at dksX5_behindSum_0 15 rfl rfl)
theorem dX5_behindSum_17 : decode cX5_behindSum 17 = .ok (.invokevirtual 294, 3) := dk_182 1 38 (dk_at dksX5_behindSum_0 17 rfl rfl)
theorem dX5_behindSum_20 : decode cX5_behindSum 20 = .ok (.ifCond .eq 8, 3) := dk_153 0 8 (dk_at dksX5_behindSum_0 20 rfl rfl)
theorem dX5_behindSum_23 : decode cX5_behindSum 23 = .ok (.bipush 21, 2) := dk_16 21 (dk_at dksX5_behindSum_1 0 rfl rfl)
theorem dX5_behindSum_25 : decode cX5_behindSum 25 = .ok (.goto 46, 3) := dk_167 0 46 (dk_at dksX5_behindSum_1 2 rfl rfl)
theorem dX5_behindSum_28 : decode cX5_behindSum 28 = .ok (.aload_n 0, 1) := dk_42 (dk_at dksX5_behindSum_1 5 rfl rfl)
theorem dX5_behindSum_29 : decode cX5_behindSum 29 = .ok (.bipush 42, 2) := dk_16 42 (dk_at dksX5_behindSum_1 6 rfl rfl)
theorem dX5_behindSum_31 : decode cX5_behindSum 31 = .ok (.invokevirtual 294, 3) := dk_182 1 38 (dk_at dksX5_behindSum_1 8 rfl rfl)
theorem dX5_behindSum_34 : decode cX5_behindSum 34 = .ok (.ifCond .eq 8, 3) := dk_153 0 8 (dk_at dksX5_behindSum_1 11 rfl rfl)
theorem dX5_behindSum_37 : decode cX5_behindSum 37 = .ok (.bipush 22, 2) := dk_16 22 (dk_at dksX5_behindSum_1 14 rfl rfl)
theorem dX5_behindSum_39 : decode cX5_behindSum 39 = .ok (.goto 32, 3) := dk_167 0 32 (dk_at dksX5_behindSum_1 16 rfl rfl)
theorem dX5_behindSum_42 : decode cX5_behindSum 42 = .ok (.aload_n 0, 1) := dk_42 (dk_at dksX5_behindSum_1 19 rfl rfl)
theorem dX5_behindSum_43 : decode cX5_behindSum 43 = .ok (.bipush 47, 2) := dk_16 47 (dk_at dksX5_behindSum_1 20 rfl rfl)
theorem dX5_behindSum_45 : decode cX5_behindSum 45 = .ok (.invokevirtual 294, 3) := dk_182 1 38 (dk_at dksX5_behindSum_2 0 rfl rfl)
theorem dX5_behindSum_48 : decode cX5_behindSum 48 = .ok (.ifCond .eq 8, 3) := dk_153 0 8 (dk_at dksX5_behindSum_2 3 rfl rfl)
theorem dX5_behindSum_51 : decode cX5_behindSum 51 = .ok (.bipush 23, 2) := dk_16 23 (dk_at dksX5_behindSum_2 6 rfl rfl)
theorem dX5_behindSum_53 : decode cX5_behindSum 53 = .ok (.goto 18, 3) := dk_167 0 18 (dk_at dksX5_behindSum_2 8 rfl rfl)
theorem dX5_behindSum_56 : decode cX5_behindSum 56 = .ok (.aload_n 0, 1) := dk_42 (dk_at dksX5_behindSum_2 11 rfl rfl)
theorem dX5_behindSum_57 : decode cX5_behindSum 57 = .ok (.bipush 37, 2) := dk_16 37 (dk_at dksX5_behindSum_2 12 rfl rfl)
theorem dX5_behindSum_59 : decode cX5_behindSum 59 = .ok (.invokevirtual 294, 3) := dk_182 1 38 (dk_at dksX5_behindSum_2 14 rfl rfl)
theorem dX5_behindSum_62 : decode cX5_behindSum 62 = .ok (.ifCond .eq 8, 3) := dk_153 0 8 (dk_at dksX5_behindSum_2 17 rfl rfl)
theorem dX5_behindSum_65 : decode cX5_behindSum 65 = .ok (.bipush 24, 2) := dk_16 24 (dk_at dksX5_behindSum_2 20 rfl rfl)
theorem dX5_behindSum_67 : decode cX5_behindSum 67 = .ok (.goto 4, 3) := dk_167 0 4 (dk_at dksX5_behindSum_3 0 rfl rfl)
theorem dX5_behindSum_70 : decode cX5_behindSum 70 = .ok (.iconst (-1), 1) := dk_2 (dk_at dksX5_behindSum_3 3 rfl rfl)
theorem dX5_behindSum_71 : decode cX5_behindSum 71 = .ok (.istore_n 2, 1) := dk_61 (dk_at dksX5_behindSum_3 4 rfl rfl)
theorem dX5_behindSum_72 : decode cX5_behindSum 72 = .ok (.iload_n 2, 1) := dk_28 (dk_at dksX5_behindSum_3 5 rfl rfl)
theorem dX5_behindSum_73 : decode cX5_behindSum 73 = .ok (.iconst (-1), 1) := dk_2 (dk_at dksX5_behindSum_3 6 rfl rfl)
theorem dX5_behindSum_74 : decode cX5_behindSum 74 = .ok (.if_icmp .eq 23, 3) := dk_159 0 23 (dk_at dksX5_behindSum_3 7 rfl rfl)
theorem dX5_behindSum_77 : decode cX5_behindSum 77 = .ok (.aload_n 0, 1) := dk_42 (dk_at dksX5_behindSum_3 10 rfl rfl)
theorem dX5_behindSum_78 : decode cX5_behindSum 78 = .ok (.iload_n 2, 1) := dk_28 (dk_at dksX5_behindSum_3 11 rfl rfl)
theorem dX5_behindSum_79 : decode cX5_behindSum 79 = .ok (.invokestatic 266, 3) := dk_184 1 10 (dk_at dksX5_behindSum_3 12 rfl rfl)
theorem dX5_behindSum_82 : decode cX5_behindSum 82 = .ok (.invokevirtual 323, 3) := dk_182 1 67 (dk_at dksX5_behindSum_3 15 rfl rfl)
theorem dX5_behindSum_85 : decode cX5_behindSum 85 = .ok (.aload_n 0, 1) := dk_42 (dk_at dksX5_behindSum_3 18 rfl rfl)
theorem dX5_behindSum_86 : decode cX5_behindSum 86 = .ok (.iload_n 2, 1) := dk_28 (dk_at dksX5_behindSum_3 19 rfl rfl)
theorem dX5_behindSum_87 : decode cX5_behindSum 87 = .ok (.iconst 0, 1) := dk_3 (dk_at dksX5_behindSum_3 20 rfl rfl)
theorem dX5_behindSum_88 : decode cX5_behindSum 88 = .ok (.invokevirtual 288, 3) := dk_182 1 32 (dk_at dksX5_behindSum_3 21 rfl rfl)
theorem dX5_behindSum_91 : decode cX5_behindSum 91 = .ok (.aload_n 0, 1) := dk_42 (dk_at dksX5_behindSum_4 0 rfl rfl)
theorem dX5_behindSum_92 : decode cX5_behindSum 92 = .ok (.invokevirtual 229, 3) := dk_182 0 229 (dk_at dksX5_behindSum_4 1 rfl rfl)
theorem dX5_behindSum_95 : decode cX5_behindSum 95 = .ok (.iconst 1, 1) := dk_4 (dk_at dksX5_behindSum_4 4 rfl rfl)
theorem dX5_behindSum_96 : decode cX5_behindSum 96 = .ok (.ireturn, 1) := dk_172 (dk_at dksX5_behindSum_4 5 rfl rfl)
theorem dX5_behindSum_97 : decode cX5_behindSum 97 = .ok (.aload_n 0, 1) := dk_42 (dk_at dksX5_behindSum_4 6 rfl rfl)
theorem dX5_behindSum_98 : decode cX5_behindSum 98 = .ok (.invokevirtual 326, 3) := dk_182 1 70 (dk_at dksX5_behindSum_4 7 rfl rfl)
theorem dX5_behindSum_101 : decode cX5_behindSum 101 = .ok (.istore_n 3, 1) := dk_62 (dk_at dksX5_behindSum_4 10 rfl rfl)
theorem dX5_behindSum_102 : decode cX5_behindSum 102 = .ok (.iload_n 3, 1) := dk_29 (dk_at dksX5_behindSum_4 11 rfl rfl)
theorem dX5_behindSum_103 : decode cX5_behindSum 103 = .ok (.bipush 32, 2) := dk_16 32 (dk_at dksX5_behindSum_4 12 rfl rfl)
theorem dX5_behindSum_105 : decode cX5_behindSum 105 = .ok (.if_icmp .ne 47, 3) := dk_160 0 47 (dk_at dksX5_behindSum_4 14 rfl rfl)
theorem dX5_behindSum_108 : decode cX5_behindSum 108 = .ok (.aload_n 0, 1) := dk_42 (dk_at dksX5_behindSum_4 17 rfl rfl)
theorem dX5_behindSum_109 : decode cX5_behindSum 109 = .ok (.aload_n 0, 1) := dk_42 (dk_at dksX5_behindSum_4 18 rfl rfl)
theorem dX5_behindSum_110 : decode cX5_behindSum 110 = .ok (.bipush 93, 2) := dk_16 93 (dk_at dksX5_behindSum_4 19 rfl rfl)
theorem dX5_behindSum_112 : decode cX5_behindSum 112 = .ok (.invokevirtual 294, 3) := dk_182 1 38 (dk_at dksX5_behindSum_4 21 rfl rfl)
theorem dX5_behindSum_115 : decode cX5_behindSum 115 = .ok (.invokevirtual 256, 3) := dk_182 1 0 (dk_at dksX5_behindSum_5 0 rfl rfl)
theorem dX5_behindSum_118 : decode cX5_behindSum 118 = .ok (.aload_n 0, 1) := dk_42 (dk_at dksX5_behindSum_5 3 rfl rfl)
theorem dX5_behindSum_119 : decode cX5_behindSum 119 = .ok (.getfield 225, 3) := dk_180 0 225 (dk_at dksX5_behindSum_5 4 rfl rfl)
theorem dX5_behindSum_122 : decode cX5_behindSum 122 = .ok (.ifCond .ne 28, 3) := dk_154 0 28 (dk_at dksX5_behindSum_5 7 rfl rfl)
theorem dX5_behindSum_125 : decode cX5_behindSum 125 = .ok (.aload_n 0, 1) := dk_42 (dk_at dksX5_behindSum_5 10 rfl rfl)
theorem dX5_behindSum_126 : decode cX5_behindSum 126 = .ok (.iconst 5, 1) := dk_8 (dk_at dksX5_behindSum_5 11 rfl rfl)
theorem dX5_behindSum_127 : decode cX5_behindSum 127 = .ok (.invokevirtual 323, 3) := dk_182 1 67 (dk_at dksX5_behindSum_5 12 rfl rfl)
theorem dX5_behindSum_130 : decode cX5_behindSum 130 = .ok (.aload_n 0, 1) := dk_42 (dk_at dksX5_behindSum_5 15 rfl rfl)
theorem dX5_behindSum_131 : decode cX5_behindSum 131 = .ok (.dup, 1) := dk_89 (dk_at dksX5_behindSum_5 16 rfl rfl)
theorem dX5_behindSum_132 : decode cX5_behindSum 132 = .ok (.getfield 263, 3) := dk_180 1 7 (dk_at dksX5_behindSum_5 17 rfl rfl)
theorem dX5_behindSum_135 : decode cX5_behindSum 135 = .ok (.iconst 1, 1) := dk_4 (dk_at dksX5_behindSum_5 20 rfl rfl)
theorem dX5_behindSum_136 : decode cX5_behindSum 136 = .ok (.isub, 1) := dk_100 (dk_at dksX5_behindSum_5 21 rfl rfl)
theorem dX5_behindSum_137 : decode cX5_behindSum 137 = .ok (.putfield 263, 3) := dk_181 1 7 (dk_at dksX5_behindSum_6 0 rfl rfl)
theorem dX5_behindSum_140 : decode cX5_behindSum 140 = .ok (.aload_n 0, 1) := dk_42 (dk_at dksX5_behindSum_6 3 rfl rfl)
theorem dX5_behindSum_141 : decode cX5_behindSum 141 = .ok (.dup, 1) := dk_89 (dk_at dksX5_behindSum_6 4 rfl rfl)
theorem dX5_behindSum_142 : decode cX5_behindSum 142 = .ok (.getfield 285, 3) := dk_180 1 29 (dk_at dksX5_behindSum_6 5 rfl rfl)
theorem dX5_behindSum_145 : decode cX5_behindSum 145 = .ok (.iconst 1, 1) := dk_4 (dk_at dksX5_behindSum_6 8 rfl rfl)
theorem dX5_behindSum_146 : decode cX5_behindSum 146 = .ok (.isub, 1) := dk_100 (dk_at dksX5_behindSum_6 9 rfl rfl)
theorem dX5_behindSum_147 : decode cX5_behindSum 147 = .ok (.putfield 285, 3) := dk_181 1 29 (dk_at dksX5_behindSum_6 10 rfl rfl)
theorem dX5_behindSum_150 : decode cX5_behindSum 150 = .ok (.iconst 3, 1) := dk_6 (dk_at dksX5_behindSum_6 13 rfl rfl)
theorem dX5_behindSum_151 : decode cX5_behindSum 151 = .ok (.ireturn, 1) := dk_172 (dk_at dksX5_behindSum_6 14 rfl rfl)
theorem dX5_behindSum_152 : decode cX5_behindSum 152 = .ok (.iload_n 3, 1) := dk_29 (dk_at dksX5_behindSum_6 15 rfl rfl)
theorem dX5_behindSum_153 : decode cX5_behindSum 153 = .ok (.iconst (-1), 1) := dk_2 (dk_at dksX5_behindSum_6 16 rfl rfl)
theorem dX5_behindSum_154 : decode cX5_behindSum 154 = .ok (.if_icmp .ne 9, 3) := dk_160 0 9 (dk_at dksX5_behindSum_6 17 rfl rfl)
theorem dX5_behindSum_157 : decode cX5_behindSum 157 = .ok (.iload_n 1, 1) := dk_27 (dk_at dksX5_behindSum_6 20 rfl rfl)
theorem dX5_behindSum_158 : decode cX5_behindSum 158 = .ok (.ifCond .ne 5, 3) := dk_154 0 5 (dk_at dksX5_behindSum_6 21 rfl rfl)
theorem dX5_behindSum_161 : decode cX5_behindSum 161 = .ok (.iconst 4, 1) := dk_7 (dk_at dksX5_behindSum_7 0 rfl rfl)
theorem dX5_behindSum_162 : decode cX5_behindSum 162 = .ok (.ireturn, 1) := dk_172 (dk_at dksX5_behindSum_7 1 rfl rfl)
theorem dX5_behindSum_163 : decode cX5_behindSum 163 = .ok (.aload_n 0, 1) := dk_42 (dk_at dksX5_behindSum_7 2 rfl rfl)
theorem dX5_behindSum_164 : decode cX5_behindSum 164 = .ok (.invokevirtual 329, 3) := dk_182 1 73 (dk_at dksX5_behindSum_7 3 rfl rfl)
theorem dX5_behindSum_167 : decode cX5_behindSum 167 = .ok (.ifCond .eq 5, 3) := dk_153 0 5 (dk_at dksX5_behindSum_7 6 rfl rfl)
theorem dX5_behindSum_170 : decode cX5_behindSum 170 = .ok (.iconst 2, 1) := dk_5 (dk_at dksX5_behindSum_7 9 rfl rfl)
theorem dX5_behindSum_171 : decode cX5_behindSum 171 = .ok (.ireturn, 1) := dk_172 (dk_at dksX5_behindSum_7 10 rfl rfl)
theorem dX5_behindSum_172 : decode cX5_behindSum 172 = .ok (.aload_n 0, 1) := dk_42 (dk_at dksX5_behindSum_7 11 rfl rfl)
theorem dX5_behindSum_173 : decode cX5_behindSum 173 = .ok (.bipush 60, 2) := dk_16 60 (dk_at dksX5_behindSum_7 12 rfl rfl)
theorem dX5_behindSum_175 : decode cX5_behindSum 175 = .ok (.invokevirtual 294, 3) := dk_182 1 38 (dk_at dksX5_behindSum_7 14 rfl rfl)
theorem dX5_behindSum_178 : decode cX5_behindSum 178 = .ok (.ifCond .eq 8, 3) := dk_153 0 8 (dk_at dksX5_behindSum_7 17 rfl rfl)
theorem dX5_behindSum_181 : decode cX5_behindSum 181 = .ok (.bipush 25, 2) := dk_16 25 (dk_at dksX5_behindSum_7 20 rfl rfl)
theorem dX5_behindSum_183 : decode cX5_behindSum 183 = .ok (.goto 19, 3) := dk_167 0 19 (dk_at dksX5_behindSum_8 0 rfl rfl)
theorem dX5_behindSum_186 : decode cX5_behindSum 186 = .ok (.aload_n 0, 1) := dk_42 (dk_at dksX5_behindSum_8 3 rfl rfl)
theorem dX5_behindSum_187 : decode cX5_behindSum 187 = .ok (.bipush 62, 2) := dk_16 62 (dk_at dksX5_behindSum_8 4 rfl rfl)
theorem dX5_behindSum_189 : decode cX5_behindSum 189 = .ok (.invokevirtual 294, 3) := dk_182 1 38 (dk_at dksX5_behindSum_8 6 rfl rfl)
theorem dX5_behindSum_192 : decode cX5_behindSum 192 = .ok (.ifCond .eq 8, 3) := dk_153 0 8 (dk_at dksX5_behindSum_8 9 rfl rfl)
theorem dX5_behindSum_195 : decode cX5_behindSum 195 = .ok (.bipush 26, 2) := dk_16 26 (dk_at dksX5_behindSum_8 12 rfl rfl)
theorem dX5_behindSum_197 : decode cX5_behindSum 197 = .ok (.goto 5, 3) := dk_167 0 5 (dk_at dksX5_behindSum_8 14 rfl rfl)
theorem dX5_behindSum_200 : decode cX5_behindSum 200 = .ok (.bipush 27, 2) := dk_16 27 (dk_at dksX5_behindSum_8 17 rfl rfl)
theorem dX5_behindSum_202 : decode cX5_behindSum 202 = .ok (.istore_n 2, 1) := dk_61 (dk_at dksX5_behindSum_8 19 rfl rfl)
theorem dX5_behindSum_203 : decode cX5_behindSum 203 = .ok (.aload_n 0, 1) := dk_42 (dk_at dksX5_behindSum_8 20 rfl rfl)
theorem dX5_behindSum_204 : decode cX5_behindSum 204 = .ok (.iload_n 2, 1) := dk_28 (dk_at dksX5_behindSum_8 21 rfl rfl)
theorem dX5_behindSum_205 : decode cX5_behindSum 205 = .ok (.bipush 27, 2) := dk_16 27 (dk_at dksX5_behindSum_8 22 rfl rfl)
theorem dX5_behindSum_207 : decode cX5_behindSum 207 = .ok (.if_icmp .ne 12, 3) := dk_160 0 12 (dk_at dksX5_behindSum_9 0 rfl rfl)
theorem dX5_behindSum_210 : decode cX5_behindSum 210 = .ok (.aload_n 0, 1) := dk_42 (dk_at dksX5_behindSum_9 3 rfl rfl)
theorem dX5_behindSum_211 : decode cX5_behindSum 211 = .ok (.bipush 61, 2) := dk_16 61 (dk_at dksX5_behindSum_9 4 rfl rfl)
theorem dX5_behindSum_213 : decode cX5_behindSum 213 = .ok (.invokevirtual 294, 3) := dk_182 1 38 (dk_at dksX5_behindSum_9 6 rfl rfl)
theorem dX5_behindSum_216 : decode cX5_behindSum 216 = .ok (.ifCond .eq 7, 3) := dk_153 0 7 (dk_at dksX5_behindSum_9 9 rfl rfl)
theorem dX5_behindSum_219 : decode cX5_behindSum 219 = .ok (.iconst 1, 1) := dk_4 (dk_at dksX5_behindSum_9 12 rfl rfl)
theorem dX5_behindSum_220 : decode cX5_behindSum 220 = .ok (.goto 4, 3) := dk_167 0 4 (dk_at dksX5_behindSum_9 13 rfl rfl)
theorem dX5_behindSum_223 : decode cX5_behindSum 223 = .ok (.iconst 0, 1) := dk_3 (dk_at dksX5_behindSum_9 16 rfl rfl)
theorem dX5_behindSum_224 : decode cX5_behindSum 224 = .ok (.invokevirtual 256, 3) := dk_182 1 0 (dk_at dksX5_behindSum_9 17 rfl rfl)
theorem dX5_behindSum_227 : decode cX5_behindSum 227 = .ok (.aload_n 0, 1) := dk_42 (dk_at dksX5_behindSum_9 20 rfl rfl)
theorem dX5_behindSum_228 : decode cX5_behindSum 228 = .ok (.getfield 225, 3) := dk_180 0 225 (dk_at dksX5_behindSum_9 21 rfl rfl)
theorem dX5_behindSum_231 : decode cX5_behindSum 231 = .ok (.ifCond .ne 14, 3) := dk_154 0 14 (dk_at dksX5_behindSum_10 0 rfl rfl)
theorem dX5_behindSum_234 : decode cX5_behindSum 234 = .ok (.aload_n 0, 1) := dk_42 (dk_at dksX5_behindSum_10 3 rfl rfl)
theorem dX5_behindSum_235 : decode cX5_behindSum 235 = .ok (.iconst 5, 1) := dk_8 (dk_at dksX5_behindSum_10 4 rfl rfl)
theorem dX5_behindSum_236 : decode cX5_behindSum 236 = .ok (.invokevirtual 323, 3) := dk_182 1 67 (dk_at dksX5_behindSum_10 5 rfl rfl)
theorem dX5_behindSum_239 : decode cX5_behindSum 239 = .ok (.aload_n 0, 1) := dk_42 (dk_at dksX5_behindSum_10 8 rfl rfl)
theorem dX5_behindSum_240 : decode cX5_behindSum 240 = .ok (.iload_n 2, 1) := dk_28 (dk_at dksX5_behindSum_10 9 rfl rfl)
theorem dX5_behindSum_241 : decode cX5_behindSum 241 = .ok (.iconst 0, 1) := dk_3 (dk_at dksX5_behindSum_10 10 rfl rfl)
theorem dX5_behindSum_242 : decode cX5_behindSum 242 = .ok (.invokevirtual 288, 3) := dk_182 1 32 (dk_at dksX5_behindSum_10 11 rfl rfl)
theorem dX5_behindSum_245 : decode cX5_behindSum 245 = .ok (.iconst 1, 1) := dk_4 (dk_at dksX5_behindSum_10 14 rfl rfl)
theorem dX5_behindSum_246 : decode cX5_behindSum 246 = .ok (.ireturn, 1) := dk_172 (dk_at dksX5_behindSum_10 15 rfl rfl)
abbrev cX5_binds : ByteArray := prog_22_method_43_code
def yX5_binds : MethodName := ⟨RX5, "binds", "(I)I"⟩
def dkwX5_binds_2 : List UInt8 := [167, 0, 15, 26, 16, 22, 161, 0, 8, 16, 6, 167, 0, 4, 8, 172]
abbrev dktX5_binds_2 : List UInt8 := dkwX5_binds_2 ++ []
def dkwX5_binds_1 : List UInt8 := [160, 0, 7, 5, 167, 0, 35, 26, 16, 28, 160, 0, 7, 6, 167, 0, 25, 26, 16, 25, 161, 0, 7, 7]
abbrev dktX5_binds_1 : List UInt8 := dkwX5_binds_1 ++ dktX5_binds_2
def dkwX5_binds_0 : List UInt8 := [26, 16, 31, 161, 0, 7, 3, 167, 0, 55, 26, 16, 30, 160, 0, 7, 4, 167, 0, 45, 26, 16, 29]
abbrev dktX5_binds_0 : List UInt8 := dkwX5_binds_0 ++ dktX5_binds_1
theorem dksX5_binds_0 : cX5_binds.data.toList.drop 0 = dktX5_binds_0 := by decide +kernel
theorem dksX5_binds_1 : cX5_binds.data.toList.drop 23 = dktX5_binds_1 := dk_seg dksX5_binds_0 23 rfl rfl
theorem dksX5_binds_2 : cX5_binds.data.toList.drop 47 = dktX5_binds_2 := dk_seg dksX5_binds_1 24 rfl rfl
theorem dX5_binds_0 : decode cX5_binds 0 = .ok (.iload_n 0, 1) := dk_26 (dk_at dksX5_binds_0 0 rfl rfl)
theorem dX5_binds_1 : decode cX5_binds 1 = .ok (.bipush 31, 2) := dk_16 31 (dk_at dksX5_binds_0 1 rfl rfl)
theorem dX5_binds_3 : decode cX5_binds 3 = .ok (.if_icmp .lt 7, 3) := dk_161 0 7 (dk_at dksX5_binds_0 3 rfl rfl)
theorem dX5_binds_6 : decode cX5_binds 6 = .ok (.iconst 0, 1) := dk_3 (dk_at dksX5_binds_0 6 rfl rfl)
theorem dX5_binds_7 : decode cX5_binds 7 = .ok (.goto 55, 3) := dk_167 0 55 (dk_at dksX5_binds_0 7 rfl rfl)
theorem dX5_binds_10 : decode cX5_binds 10 = .ok (.iload_n 0, 1) := dk_26 (dk_at dksX5_binds_0 10 rfl rfl)
theorem dX5_binds_11 : decode cX5_binds 11 = .ok (.bipush 30, 2) := dk_16 30 (dk_at dksX5_binds_0 11 rfl rfl)
theorem dX5_binds_13 : decode cX5_binds 13 = .ok (.if_icmp .ne 7, 3) := dk_160 0 7 (dk_at dksX5_binds_0 13 rfl rfl)
theorem dX5_binds_16 : decode cX5_binds 16 = .ok (.iconst 1, 1) := dk_4 (dk_at dksX5_binds_0 16 rfl rfl)
theorem dX5_binds_17 : decode cX5_binds 17 = .ok (.goto 45, 3) := dk_167 0 45 (dk_at dksX5_binds_0 17 rfl rfl)
theorem dX5_binds_20 : decode cX5_binds 20 = .ok (.iload_n 0, 1) := dk_26 (dk_at dksX5_binds_0 20 rfl rfl)
theorem dX5_binds_21 : decode cX5_binds 21 = .ok (.bipush 29, 2) := dk_16 29 (dk_at dksX5_binds_0 21 rfl rfl)
theorem dX5_binds_23 : decode cX5_binds 23 = .ok (.if_icmp .ne 7, 3) := dk_160 0 7 (dk_at dksX5_binds_1 0 rfl rfl)
theorem dX5_binds_26 : decode cX5_binds 26 = .ok (.iconst 2, 1) := dk_5 (dk_at dksX5_binds_1 3 rfl rfl)
theorem dX5_binds_27 : decode cX5_binds 27 = .ok (.goto 35, 3) := dk_167 0 35 (dk_at dksX5_binds_1 4 rfl rfl)
theorem dX5_binds_30 : decode cX5_binds 30 = .ok (.iload_n 0, 1) := dk_26 (dk_at dksX5_binds_1 7 rfl rfl)
theorem dX5_binds_31 : decode cX5_binds 31 = .ok (.bipush 28, 2) := dk_16 28 (dk_at dksX5_binds_1 8 rfl rfl)
theorem dX5_binds_33 : decode cX5_binds 33 = .ok (.if_icmp .ne 7, 3) := dk_160 0 7 (dk_at dksX5_binds_1 10 rfl rfl)
theorem dX5_binds_36 : decode cX5_binds 36 = .ok (.iconst 3, 1) := dk_6 (dk_at dksX5_binds_1 13 rfl rfl)
theorem dX5_binds_37 : decode cX5_binds 37 = .ok (.goto 25, 3) := dk_167 0 25 (dk_at dksX5_binds_1 14 rfl rfl)
theorem dX5_binds_40 : decode cX5_binds 40 = .ok (.iload_n 0, 1) := dk_26 (dk_at dksX5_binds_1 17 rfl rfl)
theorem dX5_binds_41 : decode cX5_binds 41 = .ok (.bipush 25, 2) := dk_16 25 (dk_at dksX5_binds_1 18 rfl rfl)
theorem dX5_binds_43 : decode cX5_binds 43 = .ok (.if_icmp .lt 7, 3) := dk_161 0 7 (dk_at dksX5_binds_1 20 rfl rfl)
theorem dX5_binds_46 : decode cX5_binds 46 = .ok (.iconst 4, 1) := dk_7 (dk_at dksX5_binds_1 23 rfl rfl)
theorem dX5_binds_47 : decode cX5_binds 47 = .ok (.goto 15, 3) := dk_167 0 15 (dk_at dksX5_binds_2 0 rfl rfl)
theorem dX5_binds_50 : decode cX5_binds 50 = .ok (.iload_n 0, 1) := dk_26 (dk_at dksX5_binds_2 3 rfl rfl)
theorem dX5_binds_51 : decode cX5_binds 51 = .ok (.bipush 22, 2) := dk_16 22 (dk_at dksX5_binds_2 4 rfl rfl)
theorem dX5_binds_53 : decode cX5_binds 53 = .ok (.if_icmp .lt 8, 3) := dk_161 0 8 (dk_at dksX5_binds_2 6 rfl rfl)
theorem dX5_binds_56 : decode cX5_binds 56 = .ok (.bipush 6, 2) := dk_16 6 (dk_at dksX5_binds_2 9 rfl rfl)
theorem dX5_binds_58 : decode cX5_binds 58 = .ok (.goto 4, 3) := dk_167 0 4 (dk_at dksX5_binds_2 11 rfl rfl)
theorem dX5_binds_61 : decode cX5_binds 61 = .ok (.iconst 5, 1) := dk_8 (dk_at dksX5_binds_2 14 rfl rfl)
theorem dX5_binds_62 : decode cX5_binds 62 = .ok (.ireturn, 1) := dk_172 (dk_at dksX5_binds_2 15 rfl rfl)
abbrev cX5_settle : ByteArray := prog_22_method_44_code
def yX5_settle : MethodName := ⟨RX5, "settle", "(I)V"⟩
def dkwX5_settle_4 : List UInt8 := [180, 1, 7, 46, 3, 182, 1, 13, 167, 255, 158, 177]
abbrev dktX5_settle_4 : List UInt8 := dkwX5_settle_4 ++ []
def dkwX5_settle_3 : List UInt8 := [180, 0, 54, 42, 180, 1, 7, 46, 42, 180, 1, 4, 79, 167, 255, 175, 42, 42, 180, 0, 51, 42]
abbrev dktX5_settle_3 : List UInt8 := dkwX5_settle_3 ++ dktX5_settle_4
def dkwX5_settle_2 : List UInt8 := [159, 0, 17, 42, 180, 0, 51, 42, 180, 1, 7, 46, 16, 30, 160, 0, 24, 42, 180, 0, 48, 42]
abbrev dktX5_settle_2 : List UInt8 := dkwX5_settle_2 ++ dktX5_settle_3
def dkwX5_settle_1 : List UInt8 := [161, 0, 79, 42, 89, 180, 1, 7, 4, 100, 181, 1, 7, 42, 180, 0, 51, 42, 180, 1, 7, 46, 16, 29]
abbrev dktX5_settle_1 : List UInt8 := dkwX5_settle_1 ++ dktX5_settle_2
def dkwX5_settle_0 : List UInt8 := [42, 180, 1, 7, 158, 0, 97, 42, 180, 0, 51, 42, 180, 1, 7, 4, 100, 46, 184, 1, 10, 27]
abbrev dktX5_settle_0 : List UInt8 := dkwX5_settle_0 ++ dktX5_settle_1
theorem dksX5_settle_0 : cX5_settle.data.toList.drop 0 = dktX5_settle_0 := by decide +kernel
theorem dksX5_settle_1 : cX5_settle.data.toList.drop 22 = dktX5_settle_1 := dk_seg dksX5_settle_0 22 rfl rfl
theorem dksX5_settle_2 : cX5_settle.data.toList.drop 46 = dktX5_settle_2 := dk_seg dksX5_settle_1 24 rfl rfl
theorem dksX5_settle_3 : cX5_settle.data.toList.drop 68 = dktX5_settle_3 := dk_seg dksX5_settle_2 22 rfl rfl
theorem dksX5_settle_4 : cX5_settle.data.toList.drop 90 = dktX5_settle_4 := dk_seg dksX5_settle_3 22 rfl rfl
theorem dX5_settle_0 : decode cX5_settle 0 = .ok (.aload_n 0, 1) := dk_42 (dk_at dksX5_settle_0 0 rfl rfl)
theorem dX5_settle_1 : decode cX5_settle 1 = .ok (.getfield 263, 3) := dk_180 1 7 (dk_at dksX5_settle_0 1 rfl rfl)
theorem dX5_settle_4 : decode cX5_settle 4 = .ok (.ifCond .le 97, 3) := dk_158 0 97 (dk_at dksX5_settle_0 4 rfl rfl)
theorem dX5_settle_7 : decode cX5_settle 7 = .ok (.aload_n 0, 1) := dk_42 (dk_at dksX5_settle_0 7 rfl rfl)
theorem dX5_settle_8 : decode cX5_settle 8 = .ok (.getfield 51, 3) := dk_180 0 51 (dk_at dksX5_settle_0 8 rfl rfl)
theorem dX5_settle_11 : decode cX5_settle 11 = .ok (.aload_n 0, 1) := dk_42 (dk_at dksX5_settle_0 11 rfl rfl)
theorem dX5_settle_12 : decode cX5_settle 12 = .ok (.getfield 263, 3) := dk_180 1 7 (dk_at dksX5_settle_0 12 rfl rfl)
theorem dX5_settle_15 : decode cX5_settle 15 = .ok (.iconst 1, 1) := dk_4 (dk_at dksX5_settle_0 15 rfl rfl)
theorem dX5_settle_16 : decode cX5_settle 16 = .ok (.isub, 1) := dk_100 (dk_at dksX5_settle_0 16 rfl rfl)
theorem dX5_settle_17 : decode cX5_settle 17 = .ok (.iaload, 1) := dk_46 (dk_at dksX5_settle_0 17 rfl rfl)
theorem dX5_settle_18 : decode cX5_settle 18 = .ok (.invokestatic 266, 3) := dk_184 1 10 (dk_at dksX5_settle_0 18 rfl rfl)
theorem dX5_settle_21 : decode cX5_settle 21 = .ok (.iload_n 1, 1) := dk_27 (dk_at dksX5_settle_0 21 rfl rfl)
theorem dX5_settle_22 : decode cX5_settle 22 = .ok (.if_icmp .lt 79, 3) := dk_161 0 79 (dk_at dksX5_settle_1 0 rfl rfl)
theorem dX5_settle_25 : decode cX5_settle 25 = .ok (.aload_n 0, 1) := dk_42 (dk_at dksX5_settle_1 3 rfl rfl)
theorem dX5_settle_26 : decode cX5_settle 26 = .ok (.dup, 1) := dk_89 (dk_at dksX5_settle_1 4 rfl rfl)
theorem dX5_settle_27 : decode cX5_settle 27 = .ok (.getfield 263, 3) := dk_180 1 7 (dk_at dksX5_settle_1 5 rfl rfl)
theorem dX5_settle_30 : decode cX5_settle 30 = .ok (.iconst 1, 1) := dk_4 (dk_at dksX5_settle_1 8 rfl rfl)
theorem dX5_settle_31 : decode cX5_settle 31 = .ok (.isub, 1) := dk_100 (dk_at dksX5_settle_1 9 rfl rfl)
theorem dX5_settle_32 : decode cX5_settle 32 = .ok (.putfield 263, 3) := dk_181 1 7 (dk_at dksX5_settle_1 10 rfl rfl)
theorem dX5_settle_35 : decode cX5_settle 35 = .ok (.aload_n 0, 1) := dk_42 (dk_at dksX5_settle_1 13 rfl rfl)
theorem dX5_settle_36 : decode cX5_settle 36 = .ok (.getfield 51, 3) := dk_180 0 51 (dk_at dksX5_settle_1 14 rfl rfl)
theorem dX5_settle_39 : decode cX5_settle 39 = .ok (.aload_n 0, 1) := dk_42 (dk_at dksX5_settle_1 17 rfl rfl)
theorem dX5_settle_40 : decode cX5_settle 40 = .ok (.getfield 263, 3) := dk_180 1 7 (dk_at dksX5_settle_1 18 rfl rfl)
theorem dX5_settle_43 : decode cX5_settle 43 = .ok (.iaload, 1) := dk_46 (dk_at dksX5_settle_1 21 rfl rfl)
theorem dX5_settle_44 : decode cX5_settle 44 = .ok (.bipush 29, 2) := dk_16 29 (dk_at dksX5_settle_1 22 rfl rfl)
theorem dX5_settle_46 : decode cX5_settle 46 = .ok (.if_icmp .eq 17, 3) := dk_159 0 17 (dk_at dksX5_settle_2 0 rfl rfl)
theorem dX5_settle_49 : decode cX5_settle 49 = .ok (.aload_n 0, 1) := dk_42 (dk_at dksX5_settle_2 3 rfl rfl)
theorem dX5_settle_50 : decode cX5_settle 50 = .ok (.getfield 51, 3) := dk_180 0 51 (dk_at dksX5_settle_2 4 rfl rfl)
theorem dX5_settle_53 : decode cX5_settle 53 = .ok (.aload_n 0, 1) := dk_42 (dk_at dksX5_settle_2 7 rfl rfl)
theorem dX5_settle_54 : decode cX5_settle 54 = .ok (.getfield 263, 3) := dk_180 1 7 (dk_at dksX5_settle_2 8 rfl rfl)
theorem dX5_settle_57 : decode cX5_settle 57 = .ok (.iaload, 1) := dk_46 (dk_at dksX5_settle_2 11 rfl rfl)
theorem dX5_settle_58 : decode cX5_settle 58 = .ok (.bipush 30, 2) := dk_16 30 (dk_at dksX5_settle_2 12 rfl rfl)
theorem dX5_settle_60 : decode cX5_settle 60 = .ok (.if_icmp .ne 24, 3) := dk_160 0 24 (dk_at dksX5_settle_2 14 rfl rfl)
theorem dX5_settle_63 : decode cX5_settle 63 = .ok (.aload_n 0, 1) := dk_42 (dk_at dksX5_settle_2 17 rfl rfl)
theorem dX5_settle_64 : decode cX5_settle 64 = .ok (.getfield 48, 3) := dk_180 0 48 (dk_at dksX5_settle_2 18 rfl rfl)
theorem dX5_settle_67 : decode cX5_settle 67 = .ok (.aload_n 0, 1) := dk_42 (dk_at dksX5_settle_2 21 rfl rfl)
theorem dX5_settle_68 : decode cX5_settle 68 = .ok (.getfield 54, 3) := dk_180 0 54 (dk_at dksX5_settle_3 0 rfl rfl)
theorem dX5_settle_71 : decode cX5_settle 71 = .ok (.aload_n 0, 1) := dk_42 (dk_at dksX5_settle_3 3 rfl rfl)
theorem dX5_settle_72 : decode cX5_settle 72 = .ok (.getfield 263, 3) := dk_180 1 7 (dk_at dksX5_settle_3 4 rfl rfl)
theorem dX5_settle_75 : decode cX5_settle 75 = .ok (.iaload, 1) := dk_46 (dk_at dksX5_settle_3 7 rfl rfl)
theorem dX5_settle_76 : decode cX5_settle 76 = .ok (.aload_n 0, 1) := dk_42 (dk_at dksX5_settle_3 8 rfl rfl)
theorem dX5_settle_77 : decode cX5_settle 77 = .ok (.getfield 260, 3) := dk_180 1 4 (dk_at dksX5_settle_3 9 rfl rfl)
theorem dX5_settle_80 : decode cX5_settle 80 = .ok (.iastore, 1) := dk_79 (dk_at dksX5_settle_3 12 rfl rfl)
theorem dX5_settle_81 : decode cX5_settle 81 = .ok (.goto (-81), 3) := dk_167 255 175 (dk_at dksX5_settle_3 13 rfl rfl)
theorem dX5_settle_84 : decode cX5_settle 84 = .ok (.aload_n 0, 1) := dk_42 (dk_at dksX5_settle_3 16 rfl rfl)
theorem dX5_settle_85 : decode cX5_settle 85 = .ok (.aload_n 0, 1) := dk_42 (dk_at dksX5_settle_3 17 rfl rfl)
theorem dX5_settle_86 : decode cX5_settle 86 = .ok (.getfield 51, 3) := dk_180 0 51 (dk_at dksX5_settle_3 18 rfl rfl)
theorem dX5_settle_89 : decode cX5_settle 89 = .ok (.aload_n 0, 1) := dk_42 (dk_at dksX5_settle_3 21 rfl rfl)
theorem dX5_settle_90 : decode cX5_settle 90 = .ok (.getfield 263, 3) := dk_180 1 7 (dk_at dksX5_settle_4 0 rfl rfl)
theorem dX5_settle_93 : decode cX5_settle 93 = .ok (.iaload, 1) := dk_46 (dk_at dksX5_settle_4 3 rfl rfl)
theorem dX5_settle_94 : decode cX5_settle 94 = .ok (.iconst 0, 1) := dk_3 (dk_at dksX5_settle_4 4 rfl rfl)
theorem dX5_settle_95 : decode cX5_settle 95 = .ok (.invokevirtual 269, 3) := dk_182 1 13 (dk_at dksX5_settle_4 5 rfl rfl)
theorem dX5_settle_98 : decode cX5_settle 98 = .ok (.goto (-98), 3) := dk_167 255 158 (dk_at dksX5_settle_4 8 rfl rfl)
theorem dX5_settle_101 : decode cX5_settle 101 = .ok (.return_, 1) := dk_177 (dk_at dksX5_settle_4 11 rfl rfl)
abbrev cX5_inner : ByteArray := prog_22_method_45_code
def yX5_inner : MethodName := ⟨RX5, "inner", "()I"⟩
def dkwX5_inner_1 : List UInt8 := [180, 0, 51, 28, 46, 167, 0, 4, 27, 60, 132, 2, 1, 167, 255, 223, 27, 172]
abbrev dktX5_inner_1 : List UInt8 := dkwX5_inner_1 ++ []
def dkwX5_inner_0 : List UInt8 := [2, 60, 3, 61, 28, 42, 180, 1, 7, 162, 0, 31, 42, 180, 0, 51, 28, 46, 16, 31, 161, 0, 12, 42]
abbrev dktX5_inner_0 : List UInt8 := dkwX5_inner_0 ++ dktX5_inner_1
theorem dksX5_inner_0 : cX5_inner.data.toList.drop 0 = dktX5_inner_0 := by decide +kernel
theorem dksX5_inner_1 : cX5_inner.data.toList.drop 24 = dktX5_inner_1 := dk_seg dksX5_inner_0 24 rfl rfl
theorem dX5_inner_0 : decode cX5_inner 0 = .ok (.iconst (-1), 1) := dk_2 (dk_at dksX5_inner_0 0 rfl rfl)
theorem dX5_inner_1 : decode cX5_inner 1 = .ok (.istore_n 1, 1) := dk_60 (dk_at dksX5_inner_0 1 rfl rfl)
theorem dX5_inner_2 : decode cX5_inner 2 = .ok (.iconst 0, 1) := dk_3 (dk_at dksX5_inner_0 2 rfl rfl)
theorem dX5_inner_3 : decode cX5_inner 3 = .ok (.istore_n 2, 1) := dk_61 (dk_at dksX5_inner_0 3 rfl rfl)
theorem dX5_inner_4 : decode cX5_inner 4 = .ok (.iload_n 2, 1) := dk_28 (dk_at dksX5_inner_0 4 rfl rfl)
theorem dX5_inner_5 : decode cX5_inner 5 = .ok (.aload_n 0, 1) := dk_42 (dk_at dksX5_inner_0 5 rfl rfl)
theorem dX5_inner_6 : decode cX5_inner 6 = .ok (.getfield 263, 3) := dk_180 1 7 (dk_at dksX5_inner_0 6 rfl rfl)
theorem dX5_inner_9 : decode cX5_inner 9 = .ok (.if_icmp .ge 31, 3) := dk_162 0 31 (dk_at dksX5_inner_0 9 rfl rfl)
theorem dX5_inner_12 : decode cX5_inner 12 = .ok (.aload_n 0, 1) := dk_42 (dk_at dksX5_inner_0 12 rfl rfl)
theorem dX5_inner_13 : decode cX5_inner 13 = .ok (.getfield 51, 3) := dk_180 0 51 (dk_at dksX5_inner_0 13 rfl rfl)
theorem dX5_inner_16 : decode cX5_inner 16 = .ok (.iload_n 2, 1) := dk_28 (dk_at dksX5_inner_0 16 rfl rfl)
theorem dX5_inner_17 : decode cX5_inner 17 = .ok (.iaload, 1) := dk_46 (dk_at dksX5_inner_0 17 rfl rfl)
theorem dX5_inner_18 : decode cX5_inner 18 = .ok (.bipush 31, 2) := dk_16 31 (dk_at dksX5_inner_0 18 rfl rfl)
theorem dX5_inner_20 : decode cX5_inner 20 = .ok (.if_icmp .lt 12, 3) := dk_161 0 12 (dk_at dksX5_inner_0 20 rfl rfl)
theorem dX5_inner_23 : decode cX5_inner 23 = .ok (.aload_n 0, 1) := dk_42 (dk_at dksX5_inner_0 23 rfl rfl)
theorem dX5_inner_24 : decode cX5_inner 24 = .ok (.getfield 51, 3) := dk_180 0 51 (dk_at dksX5_inner_1 0 rfl rfl)
theorem dX5_inner_27 : decode cX5_inner 27 = .ok (.iload_n 2, 1) := dk_28 (dk_at dksX5_inner_1 3 rfl rfl)
theorem dX5_inner_28 : decode cX5_inner 28 = .ok (.iaload, 1) := dk_46 (dk_at dksX5_inner_1 4 rfl rfl)
theorem dX5_inner_29 : decode cX5_inner 29 = .ok (.goto 4, 3) := dk_167 0 4 (dk_at dksX5_inner_1 5 rfl rfl)
theorem dX5_inner_32 : decode cX5_inner 32 = .ok (.iload_n 1, 1) := dk_27 (dk_at dksX5_inner_1 8 rfl rfl)
theorem dX5_inner_33 : decode cX5_inner 33 = .ok (.istore_n 1, 1) := dk_60 (dk_at dksX5_inner_1 9 rfl rfl)
theorem dX5_inner_34 : decode cX5_inner 34 = .ok (.iinc 2 1, 3) := dk_132 2 1 (dk_at dksX5_inner_1 10 rfl rfl)
theorem dX5_inner_37 : decode cX5_inner 37 = .ok (.goto (-33), 3) := dk_167 255 223 (dk_at dksX5_inner_1 13 rfl rfl)
theorem dX5_inner_40 : decode cX5_inner 40 = .ok (.iload_n 1, 1) := dk_27 (dk_at dksX5_inner_1 16 rfl rfl)
theorem dX5_inner_41 : decode cX5_inner 41 = .ok (.ireturn, 1) := dk_172 (dk_at dksX5_inner_1 17 rfl rfl)
abbrev cX5_isCompared : ByteArray := prog_22_method_46_code
def yX5_isCompared : MethodName := ⟨RX5, "isCompared", "()Z"⟩
def dkwX5_isCompared_2 : List UInt8 := [20, 1, 21, 20, 1, 23, 184, 0, 162, 153, 0, 7, 4, 167, 0, 4, 3, 172]
abbrev dktX5_isCompared_2 : List UInt8 := dkwX5_isCompared_2 ++ []
def dkwX5_isCompared_1 : List UInt8 := [184, 0, 162, 153, 0, 9, 132, 1, 255, 167, 255, 230, 27, 155, 0, 26, 42, 180, 0, 51, 27, 46, 133]
abbrev dktX5_isCompared_1 : List UInt8 := dkwX5_isCompared_1 ++ dktX5_isCompared_2
def dkwX5_isCompared_0 : List UInt8 := [42, 180, 1, 7, 4, 100, 60, 27, 155, 0, 28, 42, 180, 0, 51, 27, 46, 133, 20, 1, 17, 20, 1, 19]
abbrev dktX5_isCompared_0 : List UInt8 := dkwX5_isCompared_0 ++ dktX5_isCompared_1
theorem dksX5_isCompared_0 : cX5_isCompared.data.toList.drop 0 = dktX5_isCompared_0 := by decide +kernel
theorem dksX5_isCompared_1 : cX5_isCompared.data.toList.drop 24 = dktX5_isCompared_1 := dk_seg dksX5_isCompared_0 24 rfl rfl
theorem dksX5_isCompared_2 : cX5_isCompared.data.toList.drop 47 = dktX5_isCompared_2 := dk_seg dksX5_isCompared_1 23 rfl rfl
theorem dX5_isCompared_0 : decode cX5_isCompared 0 = .ok (.aload_n 0, 1) := dk_42 (dk_at dksX5_isCompared_0 0 rfl rfl)
theorem dX5_isCompared_1 : decode cX5_isCompared 1 = .ok (.getfield 263, 3) := dk_180 1 7 (dk_at dksX5_isCompared_0 1 rfl rfl)
theorem dX5_isCompared_4 : decode cX5_isCompared 4 = .ok (.iconst 1, 1) := dk_4 (dk_at dksX5_isCompared_0 4 rfl rfl)
theorem dX5_isCompared_5 : decode cX5_isCompared 5 = .ok (.isub, 1) := dk_100 (dk_at dksX5_isCompared_0 5 rfl rfl)
theorem dX5_isCompared_6 : decode cX5_isCompared 6 = .ok (.istore_n 1, 1) := dk_60 (dk_at dksX5_isCompared_0 6 rfl rfl)
theorem dX5_isCompared_7 : decode cX5_isCompared 7 = .ok (.iload_n 1, 1) := dk_27 (dk_at dksX5_isCompared_0 7 rfl rfl)
theorem dX5_isCompared_8 : decode cX5_isCompared 8 = .ok (.ifCond .lt 28, 3) := dk_155 0 28 (dk_at dksX5_isCompared_0 8 rfl rfl)
theorem dX5_isCompared_11 : decode cX5_isCompared 11 = .ok (.aload_n 0, 1) := dk_42 (dk_at dksX5_isCompared_0 11 rfl rfl)
theorem dX5_isCompared_12 : decode cX5_isCompared 12 = .ok (.getfield 51, 3) := dk_180 0 51 (dk_at dksX5_isCompared_0 12 rfl rfl)
theorem dX5_isCompared_15 : decode cX5_isCompared 15 = .ok (.iload_n 1, 1) := dk_27 (dk_at dksX5_isCompared_0 15 rfl rfl)
theorem dX5_isCompared_16 : decode cX5_isCompared 16 = .ok (.iaload, 1) := dk_46 (dk_at dksX5_isCompared_0 16 rfl rfl)
theorem dX5_isCompared_17 : decode cX5_isCompared 17 = .ok (.i2l, 1) := dk_133 (dk_at dksX5_isCompared_0 17 rfl rfl)
theorem dX5_isCompared_18 : decode cX5_isCompared 18 = .ok (.ldc2_w 273, 3) := dk_20 1 17 (dk_at dksX5_isCompared_0 18 rfl rfl)
theorem dX5_isCompared_21 : decode cX5_isCompared 21 = .ok (.ldc2_w 275, 3) := dk_20 1 19 (dk_at dksX5_isCompared_0 21 rfl rfl)
theorem dX5_isCompared_24 : decode cX5_isCompared 24 = .ok (.invokestatic 162, 3) := dk_184 0 162 (dk_at dksX5_isCompared_1 0 rfl rfl)
theorem dX5_isCompared_27 : decode cX5_isCompared 27 = .ok (.ifCond .eq 9, 3) := dk_153 0 9 (dk_at dksX5_isCompared_1 3 rfl rfl)
theorem dX5_isCompared_30 : decode cX5_isCompared 30 = .ok (.iinc 1 (-1), 3) := dk_132 1 255 (dk_at dksX5_isCompared_1 6 rfl rfl)
theorem dX5_isCompared_33 : decode cX5_isCompared 33 = .ok (.goto (-26), 3) := dk_167 255 230 (dk_at dksX5_isCompared_1 9 rfl rfl)
theorem dX5_isCompared_36 : decode cX5_isCompared 36 = .ok (.iload_n 1, 1) := dk_27 (dk_at dksX5_isCompared_1 12 rfl rfl)
theorem dX5_isCompared_37 : decode cX5_isCompared 37 = .ok (.ifCond .lt 26, 3) := dk_155 0 26 (dk_at dksX5_isCompared_1 13 rfl rfl)
theorem dX5_isCompared_40 : decode cX5_isCompared 40 = .ok (.aload_n 0, 1) := dk_42 (dk_at dksX5_isCompared_1 16 rfl rfl)
theorem dX5_isCompared_41 : decode cX5_isCompared 41 = .ok (.getfield 51, 3) := dk_180 0 51 (dk_at dksX5_isCompared_1 17 rfl rfl)
theorem dX5_isCompared_44 : decode cX5_isCompared 44 = .ok (.iload_n 1, 1) := dk_27 (dk_at dksX5_isCompared_1 20 rfl rfl)
theorem dX5_isCompared_45 : decode cX5_isCompared 45 = .ok (.iaload, 1) := dk_46 (dk_at dksX5_isCompared_1 21 rfl rfl)
theorem dX5_isCompared_46 : decode cX5_isCompared 46 = .ok (.i2l, 1) := dk_133 (dk_at dksX5_isCompared_1 22 rfl rfl)
theorem dX5_isCompared_47 : decode cX5_isCompared 47 = .ok (.ldc2_w 277, 3) := dk_20 1 21 (dk_at dksX5_isCompared_2 0 rfl rfl)
theorem dX5_isCompared_50 : decode cX5_isCompared 50 = .ok (.ldc2_w 279, 3) := dk_20 1 23 (dk_at dksX5_isCompared_2 3 rfl rfl)
theorem dX5_isCompared_53 : decode cX5_isCompared 53 = .ok (.invokestatic 162, 3) := dk_184 0 162 (dk_at dksX5_isCompared_2 6 rfl rfl)
theorem dX5_isCompared_56 : decode cX5_isCompared 56 = .ok (.ifCond .eq 7, 3) := dk_153 0 7 (dk_at dksX5_isCompared_2 9 rfl rfl)
theorem dX5_isCompared_59 : decode cX5_isCompared 59 = .ok (.iconst 1, 1) := dk_4 (dk_at dksX5_isCompared_2 12 rfl rfl)
theorem dX5_isCompared_60 : decode cX5_isCompared 60 = .ok (.goto 4, 3) := dk_167 0 4 (dk_at dksX5_isCompared_2 13 rfl rfl)
theorem dX5_isCompared_63 : decode cX5_isCompared 63 = .ok (.iconst 0, 1) := dk_3 (dk_at dksX5_isCompared_2 16 rfl rfl)
theorem dX5_isCompared_64 : decode cX5_isCompared 64 = .ok (.ireturn, 1) := dk_172 (dk_at dksX5_isCompared_2 17 rfl rfl)
abbrev cX5_behindTest : ByteArray := prog_22_method_54_code
def yX5_behindTest : MethodName := ⟨RX5, "behindTest", "()I"⟩
def dkwX5_behindTest_5 : List UInt8 := [181, 1, 7, 42, 89, 180, 1, 29, 4, 100, 181, 1, 29, 5, 172]
abbrev dktX5_behindTest_5 : List UInt8 := dkwX5_behindTest_5 ++ []
def dkwX5_behindTest_4 : List UInt8 := [182, 1, 0, 42, 180, 0, 225, 154, 0, 28, 42, 4, 182, 1, 67, 42, 89, 180, 1, 7, 4, 100]
abbrev dktX5_behindTest_4 : List UInt8 := dkwX5_behindTest_4 ++ dktX5_behindTest_5
def dkwX5_behindTest_3 : List UInt8 := [182, 0, 229, 3, 172, 42, 182, 1, 70, 2, 160, 0, 5, 7, 172, 42, 42, 16, 41, 182, 1, 38]
abbrev dktX5_behindTest_3 : List UInt8 := dkwX5_behindTest_3 ++ dktX5_behindTest_4
def dkwX5_behindTest_2 : List UInt8 := [180, 1, 4, 182, 1, 32, 42, 27, 153, 0, 8, 16, 29, 167, 0, 5, 16, 30, 3, 182, 1, 13, 42]
abbrev dktX5_behindTest_2 : List UInt8 := dkwX5_behindTest_2 ++ dktX5_behindTest_3
def dkwX5_behindTest_1 : List UInt8 := [153, 0, 7, 5, 167, 0, 4, 4, 182, 1, 67, 42, 27, 153, 0, 8, 16, 29, 167, 0, 5, 16, 30, 42]
abbrev dktX5_behindTest_1 : List UInt8 := dkwX5_behindTest_1 ++ dktX5_behindTest_2
def dkwX5_behindTest_0 : List UInt8 := [42, 20, 1, 77, 182, 1, 25, 60, 27, 154, 0, 13, 42, 20, 1, 79, 182, 1, 25, 153, 0, 57, 42, 27]
abbrev dktX5_behindTest_0 : List UInt8 := dkwX5_behindTest_0 ++ dktX5_behindTest_1
theorem dksX5_behindTest_0 : cX5_behindTest.data.toList.drop 0 = dktX5_behindTest_0 := by decide +kernel
theorem dksX5_behindTest_1 : cX5_behindTest.data.toList.drop 24 = dktX5_behindTest_1 := dk_seg dksX5_behindTest_0 24 rfl rfl
theorem dksX5_behindTest_2 : cX5_behindTest.data.toList.drop 48 = dktX5_behindTest_2 := dk_seg dksX5_behindTest_1 24 rfl rfl
theorem dksX5_behindTest_3 : cX5_behindTest.data.toList.drop 71 = dktX5_behindTest_3 := dk_seg dksX5_behindTest_2 23 rfl rfl
theorem dksX5_behindTest_4 : cX5_behindTest.data.toList.drop 93 = dktX5_behindTest_4 := dk_seg dksX5_behindTest_3 22 rfl rfl
theorem dksX5_behindTest_5 : cX5_behindTest.data.toList.drop 115 = dktX5_behindTest_5 := dk_seg dksX5_behindTest_4 22 rfl rfl
theorem dX5_behindTest_0 : decode cX5_behindTest 0 = .ok (.aload_n 0, 1) := dk_42 (dk_at dksX5_behindTest_0 0 rfl rfl)
theorem dX5_behindTest_1 : decode cX5_behindTest 1 = .ok (.ldc2_w 333, 3) := dk_20 1 77 (dk_at dksX5_behindTest_0 1 rfl rfl)
theorem dX5_behindTest_4 : decode cX5_behindTest 4 = .ok (.invokevirtual 281, 3) := dk_182 1 25 (dk_at dksX5_behindTest_0 4 rfl rfl)
theorem dX5_behindTest_7 : decode cX5_behindTest 7 = .ok (.istore_n 1, 1) := dk_60 (dk_at dksX5_behindTest_0 7 rfl rfl)
theorem dX5_behindTest_8 : decode cX5_behindTest 8 = .ok (.iload_n 1, 1) := dk_27 (dk_at dksX5_behindTest_0 8 rfl rfl)
theorem dX5_behindTest_9 : decode cX5_behindTest 9 = .ok (.ifCond .ne 13, 3) := dk_154 0 13 (dk_at dksX5_behindTest_0 9 rfl rfl)
theorem dX5_behindTest_12 : decode cX5_behindTest 12 = .ok (.aload_n 0, 1) := dk_42 (dk_at dksX5_behindTest_0 12 rfl rfl)
theorem dX5_behindTest_13 : decode cX5_behindTest 13 = .ok (.ldc2_w 335, 3) := dk_20 1 79 (dk_at dksX5_behindTest_0 13 rfl rfl)
theorem dX5_behindTest_16 : decode cX5_behindTest 16 = .ok (.invokevirtual 281, 3) := dk_182 1 25 (dk_at dksX5_behindTest_0 16 rfl rfl)
theorem dX5_behindTest_19 : decode cX5_behindTest 19 = .ok (.ifCond .eq 57, 3) := dk_153 0 57 (dk_at dksX5_behindTest_0 19 rfl rfl)
theorem dX5_behindTest_22 : decode cX5_behindTest 22 = .ok (.aload_n 0, 1) := dk_42 (dk_at dksX5_behindTest_0 22 rfl rfl)
theorem dX5_behindTest_23 : decode cX5_behindTest 23 = .ok (.iload_n 1, 1) := dk_27 (dk_at dksX5_behindTest_0 23 rfl rfl)
theorem dX5_behindTest_24 : decode cX5_behindTest 24 = .ok (.ifCond .eq 7, 3) := dk_153 0 7 (dk_at dksX5_behindTest_1 0 rfl rfl)
theorem dX5_behindTest_27 : decode cX5_behindTest 27 = .ok (.iconst 2, 1) := dk_5 (dk_at dksX5_behindTest_1 3 rfl rfl)
theorem dX5_behindTest_28 : decode cX5_behindTest 28 = .ok (.goto 4, 3) := dk_167 0 4 (dk_at dksX5_behindTest_1 4 rfl rfl)
theorem dX5_behindTest_31 : decode cX5_behindTest 31 = .ok (.iconst 1, 1) := dk_4 (dk_at dksX5_behindTest_1 7 rfl rfl)
theorem dX5_behindTest_32 : decode cX5_behindTest 32 = .ok (.invokevirtual 323, 3) := dk_182 1 67 (dk_at dksX5_behindTest_1 8 rfl rfl)
theorem dX5_behindTest_35 : decode cX5_behindTest 35 = .ok (.aload_n 0, 1) := dk_42 (dk_at dksX5_behindTest_1 11 rfl rfl)
theorem dX5_behindTest_36 : decode cX5_behindTest 36 = .ok (.iload_n 1, 1) := dk_27 (dk_at dksX5_behindTest_1 12 rfl rfl)
theorem dX5_behindTest_37 : decode cX5_behindTest 37 = .ok (.ifCond .eq 8, 3) := dk_153 0 8 (dk_at dksX5_behindTest_1 13 rfl rfl)
theorem dX5_behindTest_40 : decode cX5_behindTest 40 = .ok (.bipush 29, 2) := dk_16 29 (dk_at dksX5_behindTest_1 16 rfl rfl)
theorem dX5_behindTest_42 : decode cX5_behindTest 42 = .ok (.goto 5, 3) := dk_167 0 5 (dk_at dksX5_behindTest_1 18 rfl rfl)
theorem dX5_behindTest_45 : decode cX5_behindTest 45 = .ok (.bipush 30, 2) := dk_16 30 (dk_at dksX5_behindTest_1 21 rfl rfl)
theorem dX5_behindTest_47 : decode cX5_behindTest 47 = .ok (.aload_n 0, 1) := dk_42 (dk_at dksX5_behindTest_1 23 rfl rfl)
theorem dX5_behindTest_48 : decode cX5_behindTest 48 = .ok (.getfield 260, 3) := dk_180 1 4 (dk_at dksX5_behindTest_2 0 rfl rfl)
theorem dX5_behindTest_51 : decode cX5_behindTest 51 = .ok (.invokevirtual 288, 3) := dk_182 1 32 (dk_at dksX5_behindTest_2 3 rfl rfl)
theorem dX5_behindTest_54 : decode cX5_behindTest 54 = .ok (.aload_n 0, 1) := dk_42 (dk_at dksX5_behindTest_2 6 rfl rfl)
theorem dX5_behindTest_55 : decode cX5_behindTest 55 = .ok (.iload_n 1, 1) := dk_27 (dk_at dksX5_behindTest_2 7 rfl rfl)
theorem dX5_behindTest_56 : decode cX5_behindTest 56 = .ok (.ifCond .eq 8, 3) := dk_153 0 8 (dk_at dksX5_behindTest_2 8 rfl rfl)
theorem dX5_behindTest_59 : decode cX5_behindTest 59 = .ok (.bipush 29, 2) := dk_16 29 (dk_at dksX5_behindTest_2 11 rfl rfl)
theorem dX5_behindTest_61 : decode cX5_behindTest 61 = .ok (.goto 5, 3) := dk_167 0 5 (dk_at dksX5_behindTest_2 13 rfl rfl)
theorem dX5_behindTest_64 : decode cX5_behindTest 64 = .ok (.bipush 30, 2) := dk_16 30 (dk_at dksX5_behindTest_2 16 rfl rfl)
theorem dX5_behindTest_66 : decode cX5_behindTest 66 = .ok (.iconst 0, 1) := dk_3 (dk_at dksX5_behindTest_2 18 rfl rfl)
theorem dX5_behindTest_67 : decode cX5_behindTest 67 = .ok (.invokevirtual 269, 3) := dk_182 1 13 (dk_at dksX5_behindTest_2 19 rfl rfl)
theorem dX5_behindTest_70 : decode cX5_behindTest 70 = .ok (.aload_n 0, 1) := dk_42 (dk_at dksX5_behindTest_2 22 rfl rfl)
theorem dX5_behindTest_71 : decode cX5_behindTest 71 = .ok (.invokevirtual 229, 3) := dk_182 0 229 (dk_at dksX5_behindTest_3 0 rfl rfl)
theorem dX5_behindTest_74 : decode cX5_behindTest 74 = .ok (.iconst 0, 1) := dk_3 (dk_at dksX5_behindTest_3 3 rfl rfl)
theorem dX5_behindTest_75 : decode cX5_behindTest 75 = .ok (.ireturn, 1) := dk_172 (dk_at dksX5_behindTest_3 4 rfl rfl)
theorem dX5_behindTest_76 : decode cX5_behindTest 76 = .ok (.aload_n 0, 1) := dk_42 (dk_at dksX5_behindTest_3 5 rfl rfl)
theorem dX5_behindTest_77 : decode cX5_behindTest 77 = .ok (.invokevirtual 326, 3) := dk_182 1 70 (dk_at dksX5_behindTest_3 6 rfl rfl)
theorem dX5_behindTest_80 : decode cX5_behindTest 80 = .ok (.iconst (-1), 1) := dk_2 (dk_at dksX5_behindTest_3 9 rfl rfl)
theorem dX5_behindTest_81 : decode cX5_behindTest 81 = .ok (.if_icmp .ne 5, 3) := dk_160 0 5 (dk_at dksX5_behindTest_3 10 rfl rfl)
theorem dX5_behindTest_84 : decode cX5_behindTest 84 = .ok (.iconst 4, 1) := dk_7 (dk_at dksX5_behindTest_3 13 rfl rfl)
theorem dX5_behindTest_85 : decode cX5_behindTest 85 = .ok (.ireturn, 1) := dk_172 (dk_at dksX5_behindTest_3 14 rfl rfl)
theorem dX5_behindTest_86 : decode cX5_behindTest 86 = .ok (.aload_n 0, 1) := dk_42 (dk_at dksX5_behindTest_3 15 rfl rfl)
theorem dX5_behindTest_87 : decode cX5_behindTest 87 = .ok (.aload_n 0, 1) := dk_42 (dk_at dksX5_behindTest_3 16 rfl rfl)
theorem dX5_behindTest_88 : decode cX5_behindTest 88 = .ok (.bipush 41, 2) := dk_16 41 (dk_at dksX5_behindTest_3 17 rfl rfl)
theorem dX5_behindTest_90 : decode cX5_behindTest 90 = .ok (.invokevirtual 294, 3) := dk_182 1 38 (dk_at dksX5_behindTest_3 19 rfl rfl)
theorem dX5_behindTest_93 : decode cX5_behindTest 93 = .ok (.invokevirtual 256, 3) := dk_182 1 0 (dk_at dksX5_behindTest_4 0 rfl rfl)
theorem dX5_behindTest_96 : decode cX5_behindTest 96 = .ok (.aload_n 0, 1) := dk_42 (dk_at dksX5_behindTest_4 3 rfl rfl)
theorem dX5_behindTest_97 : decode cX5_behindTest 97 = .ok (.getfield 225, 3) := dk_180 0 225 (dk_at dksX5_behindTest_4 4 rfl rfl)
theorem dX5_behindTest_100 : decode cX5_behindTest 100 = .ok (.ifCond .ne 28, 3) := dk_154 0 28 (dk_at dksX5_behindTest_4 7 rfl rfl)
theorem dX5_behindTest_103 : decode cX5_behindTest 103 = .ok (.aload_n 0, 1) := dk_42 (dk_at dksX5_behindTest_4 10 rfl rfl)
theorem dX5_behindTest_104 : decode cX5_behindTest 104 = .ok (.iconst 1, 1) := dk_4 (dk_at dksX5_behindTest_4 11 rfl rfl)
theorem dX5_behindTest_105 : decode cX5_behindTest 105 = .ok (.invokevirtual 323, 3) := dk_182 1 67 (dk_at dksX5_behindTest_4 12 rfl rfl)
theorem dX5_behindTest_108 : decode cX5_behindTest 108 = .ok (.aload_n 0, 1) := dk_42 (dk_at dksX5_behindTest_4 15 rfl rfl)
theorem dX5_behindTest_109 : decode cX5_behindTest 109 = .ok (.dup, 1) := dk_89 (dk_at dksX5_behindTest_4 16 rfl rfl)
theorem dX5_behindTest_110 : decode cX5_behindTest 110 = .ok (.getfield 263, 3) := dk_180 1 7 (dk_at dksX5_behindTest_4 17 rfl rfl)
theorem dX5_behindTest_113 : decode cX5_behindTest 113 = .ok (.iconst 1, 1) := dk_4 (dk_at dksX5_behindTest_4 20 rfl rfl)
theorem dX5_behindTest_114 : decode cX5_behindTest 114 = .ok (.isub, 1) := dk_100 (dk_at dksX5_behindTest_4 21 rfl rfl)
theorem dX5_behindTest_115 : decode cX5_behindTest 115 = .ok (.putfield 263, 3) := dk_181 1 7 (dk_at dksX5_behindTest_5 0 rfl rfl)
theorem dX5_behindTest_118 : decode cX5_behindTest 118 = .ok (.aload_n 0, 1) := dk_42 (dk_at dksX5_behindTest_5 3 rfl rfl)
theorem dX5_behindTest_119 : decode cX5_behindTest 119 = .ok (.dup, 1) := dk_89 (dk_at dksX5_behindTest_5 4 rfl rfl)
theorem dX5_behindTest_120 : decode cX5_behindTest 120 = .ok (.getfield 285, 3) := dk_180 1 29 (dk_at dksX5_behindTest_5 5 rfl rfl)
theorem dX5_behindTest_123 : decode cX5_behindTest 123 = .ok (.iconst 1, 1) := dk_4 (dk_at dksX5_behindTest_5 8 rfl rfl)
theorem dX5_behindTest_124 : decode cX5_behindTest 124 = .ok (.isub, 1) := dk_100 (dk_at dksX5_behindTest_5 9 rfl rfl)
theorem dX5_behindTest_125 : decode cX5_behindTest 125 = .ok (.putfield 285, 3) := dk_181 1 29 (dk_at dksX5_behindTest_5 10 rfl rfl)
theorem dX5_behindTest_128 : decode cX5_behindTest 128 = .ok (.iconst 2, 1) := dk_5 (dk_at dksX5_behindTest_5 13 rfl rfl)
theorem dX5_behindTest_129 : decode cX5_behindTest 129 = .ok (.ireturn, 1) := dk_172 (dk_at dksX5_behindTest_5 14 rfl rfl)
abbrev cX5_endText : ByteArray := prog_22_method_57_code
def yX5_endText : MethodName := ⟨RX5, "endText", "()V"⟩
def dkwX5_endText_1 : List UInt8 := [42, 3, 181, 0, 213, 177]
abbrev dktX5_endText_1 : List UInt8 := dkwX5_endText_1 ++ []
def dkwX5_endText_0 : List UInt8 := [42, 180, 0, 225, 154, 0, 15, 42, 180, 0, 245, 153, 0, 8, 42, 3, 182, 1, 0, 42, 3, 181, 1, 44]
abbrev dktX5_endText_0 : List UInt8 := dkwX5_endText_0 ++ dktX5_endText_1
theorem dksX5_endText_0 : cX5_endText.data.toList.drop 0 = dktX5_endText_0 := by decide +kernel
theorem dksX5_endText_1 : cX5_endText.data.toList.drop 24 = dktX5_endText_1 := dk_seg dksX5_endText_0 24 rfl rfl
theorem dX5_endText_0 : decode cX5_endText 0 = .ok (.aload_n 0, 1) := dk_42 (dk_at dksX5_endText_0 0 rfl rfl)
theorem dX5_endText_1 : decode cX5_endText 1 = .ok (.getfield 225, 3) := dk_180 0 225 (dk_at dksX5_endText_0 1 rfl rfl)
theorem dX5_endText_4 : decode cX5_endText 4 = .ok (.ifCond .ne 15, 3) := dk_154 0 15 (dk_at dksX5_endText_0 4 rfl rfl)
theorem dX5_endText_7 : decode cX5_endText 7 = .ok (.aload_n 0, 1) := dk_42 (dk_at dksX5_endText_0 7 rfl rfl)
theorem dX5_endText_8 : decode cX5_endText 8 = .ok (.getfield 245, 3) := dk_180 0 245 (dk_at dksX5_endText_0 8 rfl rfl)
theorem dX5_endText_11 : decode cX5_endText 11 = .ok (.ifCond .eq 8, 3) := dk_153 0 8 (dk_at dksX5_endText_0 11 rfl rfl)
theorem dX5_endText_14 : decode cX5_endText 14 = .ok (.aload_n 0, 1) := dk_42 (dk_at dksX5_endText_0 14 rfl rfl)
theorem dX5_endText_15 : decode cX5_endText 15 = .ok (.iconst 0, 1) := dk_3 (dk_at dksX5_endText_0 15 rfl rfl)
theorem dX5_endText_16 : decode cX5_endText 16 = .ok (.invokevirtual 256, 3) := dk_182 1 0 (dk_at dksX5_endText_0 16 rfl rfl)
theorem dX5_endText_19 : decode cX5_endText 19 = .ok (.aload_n 0, 1) := dk_42 (dk_at dksX5_endText_0 19 rfl rfl)
theorem dX5_endText_20 : decode cX5_endText 20 = .ok (.iconst 0, 1) := dk_3 (dk_at dksX5_endText_0 20 rfl rfl)
theorem dX5_endText_21 : decode cX5_endText 21 = .ok (.putfield 300, 3) := dk_181 1 44 (dk_at dksX5_endText_0 21 rfl rfl)
theorem dX5_endText_24 : decode cX5_endText 24 = .ok (.aload_n 0, 1) := dk_42 (dk_at dksX5_endText_1 0 rfl rfl)
theorem dX5_endText_25 : decode cX5_endText 25 = .ok (.iconst 0, 1) := dk_3 (dk_at dksX5_endText_1 1 rfl rfl)
theorem dX5_endText_26 : decode cX5_endText 26 = .ok (.putfield 213, 3) := dk_181 0 213 (dk_at dksX5_endText_1 2 rfl rfl)
theorem dX5_endText_29 : decode cX5_endText 29 = .ok (.return_, 1) := dk_177 (dk_at dksX5_endText_1 5 rfl rfl)
abbrev cX5_force : ByteArray := prog_22_method_60_code
def yX5_force : MethodName := ⟨RX5, "force", "(I)I"⟩
def dkwX5_force_1 : List UInt8 := [184, 0, 162, 153, 0, 12, 42, 8, 27, 182, 0, 206, 167, 0, 9, 42, 16, 254, 182, 0, 155, 172]
abbrev dktX5_force_1 : List UInt8 := dkwX5_force_1 ++ []
def dkwX5_force_0 : List UInt8 := [42, 3, 181, 0, 142, 27, 2, 159, 0, 21, 27, 133, 9, 42, 180, 0, 13, 7, 46, 133, 10, 101]
abbrev dktX5_force_0 : List UInt8 := dkwX5_force_0 ++ dktX5_force_1
theorem dksX5_force_0 : cX5_force.data.toList.drop 0 = dktX5_force_0 := by decide +kernel
theorem dksX5_force_1 : cX5_force.data.toList.drop 22 = dktX5_force_1 := dk_seg dksX5_force_0 22 rfl rfl
theorem dX5_force_0 : decode cX5_force 0 = .ok (.aload_n 0, 1) := dk_42 (dk_at dksX5_force_0 0 rfl rfl)
theorem dX5_force_1 : decode cX5_force 1 = .ok (.iconst 0, 1) := dk_3 (dk_at dksX5_force_0 1 rfl rfl)
theorem dX5_force_2 : decode cX5_force 2 = .ok (.putfield 142, 3) := dk_181 0 142 (dk_at dksX5_force_0 2 rfl rfl)
theorem dX5_force_5 : decode cX5_force 5 = .ok (.iload_n 1, 1) := dk_27 (dk_at dksX5_force_0 5 rfl rfl)
theorem dX5_force_6 : decode cX5_force 6 = .ok (.iconst (-1), 1) := dk_2 (dk_at dksX5_force_0 6 rfl rfl)
theorem dX5_force_7 : decode cX5_force 7 = .ok (.if_icmp .eq 21, 3) := dk_159 0 21 (dk_at dksX5_force_0 7 rfl rfl)
theorem dX5_force_10 : decode cX5_force 10 = .ok (.iload_n 1, 1) := dk_27 (dk_at dksX5_force_0 10 rfl rfl)
theorem dX5_force_11 : decode cX5_force 11 = .ok (.i2l, 1) := dk_133 (dk_at dksX5_force_0 11 rfl rfl)
theorem dX5_force_12 : decode cX5_force 12 = .ok (.lconst 0, 1) := dk_9 (dk_at dksX5_force_0 12 rfl rfl)
theorem dX5_force_13 : decode cX5_force 13 = .ok (.aload_n 0, 1) := dk_42 (dk_at dksX5_force_0 13 rfl rfl)
theorem dX5_force_14 : decode cX5_force 14 = .ok (.getfield 13, 3) := dk_180 0 13 (dk_at dksX5_force_0 14 rfl rfl)
theorem dX5_force_17 : decode cX5_force 17 = .ok (.iconst 4, 1) := dk_7 (dk_at dksX5_force_0 17 rfl rfl)
theorem dX5_force_18 : decode cX5_force 18 = .ok (.iaload, 1) := dk_46 (dk_at dksX5_force_0 18 rfl rfl)
theorem dX5_force_19 : decode cX5_force 19 = .ok (.i2l, 1) := dk_133 (dk_at dksX5_force_0 19 rfl rfl)
theorem dX5_force_20 : decode cX5_force 20 = .ok (.lconst 1, 1) := dk_10 (dk_at dksX5_force_0 20 rfl rfl)
theorem dX5_force_21 : decode cX5_force 21 = .ok (.lsub, 1) := dk_101 (dk_at dksX5_force_0 21 rfl rfl)
theorem dX5_force_22 : decode cX5_force 22 = .ok (.invokestatic 162, 3) := dk_184 0 162 (dk_at dksX5_force_1 0 rfl rfl)
theorem dX5_force_25 : decode cX5_force 25 = .ok (.ifCond .eq 12, 3) := dk_153 0 12 (dk_at dksX5_force_1 3 rfl rfl)
theorem dX5_force_28 : decode cX5_force 28 = .ok (.aload_n 0, 1) := dk_42 (dk_at dksX5_force_1 6 rfl rfl)
theorem dX5_force_29 : decode cX5_force 29 = .ok (.iconst 5, 1) := dk_8 (dk_at dksX5_force_1 7 rfl rfl)
theorem dX5_force_30 : decode cX5_force 30 = .ok (.iload_n 1, 1) := dk_27 (dk_at dksX5_force_1 8 rfl rfl)
theorem dX5_force_31 : decode cX5_force 31 = .ok (.invokevirtual 206, 3) := dk_182 0 206 (dk_at dksX5_force_1 9 rfl rfl)
theorem dX5_force_34 : decode cX5_force 34 = .ok (.goto 9, 3) := dk_167 0 9 (dk_at dksX5_force_1 12 rfl rfl)
theorem dX5_force_37 : decode cX5_force 37 = .ok (.aload_n 0, 1) := dk_42 (dk_at dksX5_force_1 15 rfl rfl)
theorem dX5_force_38 : decode cX5_force 38 = .ok (.bipush (-2), 2) := dk_16 254 (dk_at dksX5_force_1 16 rfl rfl)
theorem dX5_force_40 : decode cX5_force 40 = .ok (.invokevirtual 155, 3) := dk_182 0 155 (dk_at dksX5_force_1 18 rfl rfl)
theorem dX5_force_43 : decode cX5_force 43 = .ok (.ireturn, 1) := dk_172 (dk_at dksX5_force_1 21 rfl rfl)
abbrev cX5_asks : ByteArray := prog_22_method_69_code
def yX5_asks : MethodName := ⟨RX5, "asks", "(III)I"⟩
def dkwX5_asks_6 : List UInt8 := [96, 46, 182, 1, 160, 153, 0, 7, 4, 167, 0, 4, 3, 172]
abbrev dktX5_asks_6 : List UInt8 := dkwX5_asks_6 ++ []
def dkwX5_asks_5 : List UInt8 := [28, 42, 180, 0, 13, 16, 19, 27, 96, 46, 182, 1, 150, 172, 42, 27, 28, 42, 180, 0, 13, 16, 19, 27]
abbrev dktX5_asks_5 : List UInt8 := dkwX5_asks_5 ++ dktX5_asks_6
def dkwX5_asks_4 : List UInt8 := [42, 27, 28, 182, 1, 154, 172, 42, 27, 28, 182, 1, 157, 153, 0, 7, 4, 167, 0, 4, 3, 172, 42, 27]
abbrev dktX5_asks_4 : List UInt8 := dkwX5_asks_4 ++ dktX5_asks_5
def dkwX5_asks_3 : List UInt8 := [170, 0, 0, 0, 63, 0, 0, 0, 0, 0, 0, 0, 2, 0, 0, 0, 25, 0, 0, 0, 32, 0, 0, 0, 47]
abbrev dktX5_asks_3 : List UInt8 := dkwX5_asks_3 ++ dktX5_asks_4
def dkwX5_asks_2 : List UInt8 := [184, 0, 162, 154, 0, 5, 2, 172, 29]
abbrev dktX5_asks_2 : List UInt8 := dkwX5_asks_2 ++ dktX5_asks_3
def dkwX5_asks_1 : List UInt8 := [153, 0, 30, 29, 5, 162, 0, 13, 28, 184, 0, 199, 154, 0, 20, 167, 0, 15, 28, 133, 10, 20, 0, 187]
abbrev dktX5_asks_1 : List UInt8 := dkwX5_asks_1 ++ dktX5_asks_2
def dkwX5_asks_0 : List UInt8 := [42, 3, 181, 0, 142, 42, 27, 182, 0, 195, 153, 0, 42, 29, 133, 9, 20, 0, 189, 184, 0, 162]
abbrev dktX5_asks_0 : List UInt8 := dkwX5_asks_0 ++ dktX5_asks_1
theorem dksX5_asks_0 : cX5_asks.data.toList.drop 0 = dktX5_asks_0 := by decide +kernel
theorem dksX5_asks_1 : cX5_asks.data.toList.drop 22 = dktX5_asks_1 := dk_seg dksX5_asks_0 22 rfl rfl
theorem dksX5_asks_2 : cX5_asks.data.toList.drop 46 = dktX5_asks_2 := dk_seg dksX5_asks_1 24 rfl rfl
theorem dksX5_asks_3 : cX5_asks.data.toList.drop 55 = dktX5_asks_3 := dk_seg dksX5_asks_2 9 rfl rfl
theorem dksX5_asks_4 : cX5_asks.data.toList.drop 80 = dktX5_asks_4 := dk_seg dksX5_asks_3 25 rfl rfl
theorem dksX5_asks_5 : cX5_asks.data.toList.drop 104 = dktX5_asks_5 := dk_seg dksX5_asks_4 24 rfl rfl
theorem dksX5_asks_6 : cX5_asks.data.toList.drop 128 = dktX5_asks_6 := dk_seg dksX5_asks_5 24 rfl rfl
theorem dX5_asks_0 : decode cX5_asks 0 = .ok (.aload_n 0, 1) := dk_42 (dk_at dksX5_asks_0 0 rfl rfl)
theorem dX5_asks_1 : decode cX5_asks 1 = .ok (.iconst 0, 1) := dk_3 (dk_at dksX5_asks_0 1 rfl rfl)
theorem dX5_asks_2 : decode cX5_asks 2 = .ok (.putfield 142, 3) := dk_181 0 142 (dk_at dksX5_asks_0 2 rfl rfl)
theorem dX5_asks_5 : decode cX5_asks 5 = .ok (.aload_n 0, 1) := dk_42 (dk_at dksX5_asks_0 5 rfl rfl)
theorem dX5_asks_6 : decode cX5_asks 6 = .ok (.iload_n 1, 1) := dk_27 (dk_at dksX5_asks_0 6 rfl rfl)
theorem dX5_asks_7 : decode cX5_asks 7 = .ok (.invokevirtual 195, 3) := dk_182 0 195 (dk_at dksX5_asks_0 7 rfl rfl)
theorem dX5_asks_10 : decode cX5_asks 10 = .ok (.ifCond .eq 42, 3) := dk_153 0 42 (dk_at dksX5_asks_0 10 rfl rfl)
theorem dX5_asks_13 : decode cX5_asks 13 = .ok (.iload_n 3, 1) := dk_29 (dk_at dksX5_asks_0 13 rfl rfl)
theorem dX5_asks_14 : decode cX5_asks 14 = .ok (.i2l, 1) := dk_133 (dk_at dksX5_asks_0 14 rfl rfl)
theorem dX5_asks_15 : decode cX5_asks 15 = .ok (.lconst 0, 1) := dk_9 (dk_at dksX5_asks_0 15 rfl rfl)
theorem dX5_asks_16 : decode cX5_asks 16 = .ok (.ldc2_w 189, 3) := dk_20 0 189 (dk_at dksX5_asks_0 16 rfl rfl)
theorem dX5_asks_19 : decode cX5_asks 19 = .ok (.invokestatic 162, 3) := dk_184 0 162 (dk_at dksX5_asks_0 19 rfl rfl)
theorem dX5_asks_22 : decode cX5_asks 22 = .ok (.ifCond .eq 30, 3) := dk_153 0 30 (dk_at dksX5_asks_1 0 rfl rfl)
theorem dX5_asks_25 : decode cX5_asks 25 = .ok (.iload_n 3, 1) := dk_29 (dk_at dksX5_asks_1 3 rfl rfl)
theorem dX5_asks_26 : decode cX5_asks 26 = .ok (.iconst 2, 1) := dk_5 (dk_at dksX5_asks_1 4 rfl rfl)
theorem dX5_asks_27 : decode cX5_asks 27 = .ok (.if_icmp .ge 13, 3) := dk_162 0 13 (dk_at dksX5_asks_1 5 rfl rfl)
theorem dX5_asks_30 : decode cX5_asks 30 = .ok (.iload_n 2, 1) := dk_28 (dk_at dksX5_asks_1 8 rfl rfl)
theorem dX5_asks_31 : decode cX5_asks 31 = .ok (.invokestatic 199, 3) := dk_184 0 199 (dk_at dksX5_asks_1 9 rfl rfl)
theorem dX5_asks_34 : decode cX5_asks 34 = .ok (.ifCond .ne 20, 3) := dk_154 0 20 (dk_at dksX5_asks_1 12 rfl rfl)
theorem dX5_asks_37 : decode cX5_asks 37 = .ok (.goto 15, 3) := dk_167 0 15 (dk_at dksX5_asks_1 15 rfl rfl)
theorem dX5_asks_40 : decode cX5_asks 40 = .ok (.iload_n 2, 1) := dk_28 (dk_at dksX5_asks_1 18 rfl rfl)
theorem dX5_asks_41 : decode cX5_asks 41 = .ok (.i2l, 1) := dk_133 (dk_at dksX5_asks_1 19 rfl rfl)
theorem dX5_asks_42 : decode cX5_asks 42 = .ok (.lconst 1, 1) := dk_10 (dk_at dksX5_asks_1 20 rfl rfl)
theorem dX5_asks_43 : decode cX5_asks 43 = .ok (.ldc2_w 187, 3) := dk_20 0 187 (dk_at dksX5_asks_1 21 rfl rfl)
theorem dX5_asks_46 : decode cX5_asks 46 = .ok (.invokestatic 162, 3) := dk_184 0 162 (dk_at dksX5_asks_2 0 rfl rfl)
theorem dX5_asks_49 : decode cX5_asks 49 = .ok (.ifCond .ne 5, 3) := dk_154 0 5 (dk_at dksX5_asks_2 3 rfl rfl)
theorem dX5_asks_52 : decode cX5_asks 52 = .ok (.iconst (-1), 1) := dk_2 (dk_at dksX5_asks_2 6 rfl rfl)
theorem dX5_asks_53 : decode cX5_asks 53 = .ok (.ireturn, 1) := dk_172 (dk_at dksX5_asks_2 7 rfl rfl)
theorem dX5_asks_54 : decode cX5_asks 54 = .ok (.iload_n 3, 1) := dk_29 (dk_at dksX5_asks_2 8 rfl rfl)
theorem dX5_asks_55 : decode cX5_asks 55 = .ok (.tableswitch 63 0 2 #[25, 32, 47], 25) := by decide +kernel
theorem dX5_asks_80 : decode cX5_asks 80 = .ok (.aload_n 0, 1) := dk_42 (dk_at dksX5_asks_4 0 rfl rfl)
theorem dX5_asks_81 : decode cX5_asks 81 = .ok (.iload_n 1, 1) := dk_27 (dk_at dksX5_asks_4 1 rfl rfl)
theorem dX5_asks_82 : decode cX5_asks 82 = .ok (.iload_n 2, 1) := dk_28 (dk_at dksX5_asks_4 2 rfl rfl)
theorem dX5_asks_83 : decode cX5_asks 83 = .ok (.invokevirtual 410, 3) := dk_182 1 154 (dk_at dksX5_asks_4 3 rfl rfl)
theorem dX5_asks_86 : decode cX5_asks 86 = .ok (.ireturn, 1) := dk_172 (dk_at dksX5_asks_4 6 rfl rfl)
theorem dX5_asks_87 : decode cX5_asks 87 = .ok (.aload_n 0, 1) := dk_42 (dk_at dksX5_asks_4 7 rfl rfl)
theorem dX5_asks_88 : decode cX5_asks 88 = .ok (.iload_n 1, 1) := dk_27 (dk_at dksX5_asks_4 8 rfl rfl)
theorem dX5_asks_89 : decode cX5_asks 89 = .ok (.iload_n 2, 1) := dk_28 (dk_at dksX5_asks_4 9 rfl rfl)
theorem dX5_asks_90 : decode cX5_asks 90 = .ok (.invokevirtual 413, 3) := dk_182 1 157 (dk_at dksX5_asks_4 10 rfl rfl)
theorem dX5_asks_93 : decode cX5_asks 93 = .ok (.ifCond .eq 7, 3) := dk_153 0 7 (dk_at dksX5_asks_4 13 rfl rfl)
theorem dX5_asks_96 : decode cX5_asks 96 = .ok (.iconst 1, 1) := dk_4 (dk_at dksX5_asks_4 16 rfl rfl)
theorem dX5_asks_97 : decode cX5_asks 97 = .ok (.goto 4, 3) := dk_167 0 4 (dk_at dksX5_asks_4 17 rfl rfl)
theorem dX5_asks_100 : decode cX5_asks 100 = .ok (.iconst 0, 1) := dk_3 (dk_at dksX5_asks_4 20 rfl rfl)
theorem dX5_asks_101 : decode cX5_asks 101 = .ok (.ireturn, 1) := dk_172 (dk_at dksX5_asks_4 21 rfl rfl)
theorem dX5_asks_102 : decode cX5_asks 102 = .ok (.aload_n 0, 1) := dk_42 (dk_at dksX5_asks_4 22 rfl rfl)
theorem dX5_asks_103 : decode cX5_asks 103 = .ok (.iload_n 1, 1) := dk_27 (dk_at dksX5_asks_4 23 rfl rfl)
theorem dX5_asks_104 : decode cX5_asks 104 = .ok (.iload_n 2, 1) := dk_28 (dk_at dksX5_asks_5 0 rfl rfl)
theorem dX5_asks_105 : decode cX5_asks 105 = .ok (.aload_n 0, 1) := dk_42 (dk_at dksX5_asks_5 1 rfl rfl)
theorem dX5_asks_106 : decode cX5_asks 106 = .ok (.getfield 13, 3) := dk_180 0 13 (dk_at dksX5_asks_5 2 rfl rfl)
theorem dX5_asks_109 : decode cX5_asks 109 = .ok (.bipush 19, 2) := dk_16 19 (dk_at dksX5_asks_5 5 rfl rfl)
theorem dX5_asks_111 : decode cX5_asks 111 = .ok (.iload_n 1, 1) := dk_27 (dk_at dksX5_asks_5 7 rfl rfl)
theorem dX5_asks_112 : decode cX5_asks 112 = .ok (.iadd, 1) := dk_96 (dk_at dksX5_asks_5 8 rfl rfl)
theorem dX5_asks_113 : decode cX5_asks 113 = .ok (.iaload, 1) := dk_46 (dk_at dksX5_asks_5 9 rfl rfl)
theorem dX5_asks_114 : decode cX5_asks 114 = .ok (.invokevirtual 406, 3) := dk_182 1 150 (dk_at dksX5_asks_5 10 rfl rfl)
theorem dX5_asks_117 : decode cX5_asks 117 = .ok (.ireturn, 1) := dk_172 (dk_at dksX5_asks_5 13 rfl rfl)
theorem dX5_asks_118 : decode cX5_asks 118 = .ok (.aload_n 0, 1) := dk_42 (dk_at dksX5_asks_5 14 rfl rfl)
theorem dX5_asks_119 : decode cX5_asks 119 = .ok (.iload_n 1, 1) := dk_27 (dk_at dksX5_asks_5 15 rfl rfl)
theorem dX5_asks_120 : decode cX5_asks 120 = .ok (.iload_n 2, 1) := dk_28 (dk_at dksX5_asks_5 16 rfl rfl)
theorem dX5_asks_121 : decode cX5_asks 121 = .ok (.aload_n 0, 1) := dk_42 (dk_at dksX5_asks_5 17 rfl rfl)
theorem dX5_asks_122 : decode cX5_asks 122 = .ok (.getfield 13, 3) := dk_180 0 13 (dk_at dksX5_asks_5 18 rfl rfl)
theorem dX5_asks_125 : decode cX5_asks 125 = .ok (.bipush 19, 2) := dk_16 19 (dk_at dksX5_asks_5 21 rfl rfl)
theorem dX5_asks_127 : decode cX5_asks 127 = .ok (.iload_n 1, 1) := dk_27 (dk_at dksX5_asks_5 23 rfl rfl)
theorem dX5_asks_128 : decode cX5_asks 128 = .ok (.iadd, 1) := dk_96 (dk_at dksX5_asks_6 0 rfl rfl)
theorem dX5_asks_129 : decode cX5_asks 129 = .ok (.iaload, 1) := dk_46 (dk_at dksX5_asks_6 1 rfl rfl)
theorem dX5_asks_130 : decode cX5_asks 130 = .ok (.invokevirtual 416, 3) := dk_182 1 160 (dk_at dksX5_asks_6 2 rfl rfl)
theorem dX5_asks_133 : decode cX5_asks 133 = .ok (.ifCond .eq 7, 3) := dk_153 0 7 (dk_at dksX5_asks_6 5 rfl rfl)
theorem dX5_asks_136 : decode cX5_asks 136 = .ok (.iconst 1, 1) := dk_4 (dk_at dksX5_asks_6 8 rfl rfl)
theorem dX5_asks_137 : decode cX5_asks 137 = .ok (.goto 4, 3) := dk_167 0 4 (dk_at dksX5_asks_6 9 rfl rfl)
theorem dX5_asks_140 : decode cX5_asks 140 = .ok (.iconst 0, 1) := dk_3 (dk_at dksX5_asks_6 12 rfl rfl)
theorem dX5_asks_141 : decode cX5_asks 141 = .ok (.ireturn, 1) := dk_172 (dk_at dksX5_asks_6 13 rfl rfl)
abbrev cX5_paysOf : ByteArray := prog_22_method_65_code
def yX5_paysOf : MethodName := ⟨RX5, "paysOf", "(II)I"⟩
def dkwX5_paysOf_1 : List UInt8 := [184, 1, 141, 172]
abbrev dktX5_paysOf_1 : List UInt8 := dkwX5_paysOf_1 ++ []
def dkwX5_paysOf_0 : List UInt8 := [42, 4, 27, 28, 2, 2, 2, 42, 180, 0, 13, 16, 49, 28, 96, 46, 133, 182, 1, 137, 3, 16, 99]
abbrev dktX5_paysOf_0 : List UInt8 := dkwX5_paysOf_0 ++ dktX5_paysOf_1
theorem dksX5_paysOf_0 : cX5_paysOf.data.toList.drop 0 = dktX5_paysOf_0 := by decide +kernel
theorem dksX5_paysOf_1 : cX5_paysOf.data.toList.drop 23 = dktX5_paysOf_1 := dk_seg dksX5_paysOf_0 23 rfl rfl
theorem dX5_paysOf_0 : decode cX5_paysOf 0 = .ok (.aload_n 0, 1) := dk_42 (dk_at dksX5_paysOf_0 0 rfl rfl)
theorem dX5_paysOf_1 : decode cX5_paysOf 1 = .ok (.iconst 1, 1) := dk_4 (dk_at dksX5_paysOf_0 1 rfl rfl)
theorem dX5_paysOf_2 : decode cX5_paysOf 2 = .ok (.iload_n 1, 1) := dk_27 (dk_at dksX5_paysOf_0 2 rfl rfl)
theorem dX5_paysOf_3 : decode cX5_paysOf 3 = .ok (.iload_n 2, 1) := dk_28 (dk_at dksX5_paysOf_0 3 rfl rfl)
theorem dX5_paysOf_4 : decode cX5_paysOf 4 = .ok (.iconst (-1), 1) := dk_2 (dk_at dksX5_paysOf_0 4 rfl rfl)
theorem dX5_paysOf_5 : decode cX5_paysOf 5 = .ok (.iconst (-1), 1) := dk_2 (dk_at dksX5_paysOf_0 5 rfl rfl)
theorem dX5_paysOf_6 : decode cX5_paysOf 6 = .ok (.iconst (-1), 1) := dk_2 (dk_at dksX5_paysOf_0 6 rfl rfl)
theorem dX5_paysOf_7 : decode cX5_paysOf 7 = .ok (.aload_n 0, 1) := dk_42 (dk_at dksX5_paysOf_0 7 rfl rfl)
theorem dX5_paysOf_8 : decode cX5_paysOf 8 = .ok (.getfield 13, 3) := dk_180 0 13 (dk_at dksX5_paysOf_0 8 rfl rfl)
theorem dX5_paysOf_11 : decode cX5_paysOf 11 = .ok (.bipush 49, 2) := dk_16 49 (dk_at dksX5_paysOf_0 11 rfl rfl)
theorem dX5_paysOf_13 : decode cX5_paysOf 13 = .ok (.iload_n 2, 1) := dk_28 (dk_at dksX5_paysOf_0 13 rfl rfl)
theorem dX5_paysOf_14 : decode cX5_paysOf 14 = .ok (.iadd, 1) := dk_96 (dk_at dksX5_paysOf_0 14 rfl rfl)
theorem dX5_paysOf_15 : decode cX5_paysOf 15 = .ok (.iaload, 1) := dk_46 (dk_at dksX5_paysOf_0 15 rfl rfl)
theorem dX5_paysOf_16 : decode cX5_paysOf 16 = .ok (.i2l, 1) := dk_133 (dk_at dksX5_paysOf_0 16 rfl rfl)
theorem dX5_paysOf_17 : decode cX5_paysOf 17 = .ok (.invokevirtual 393, 3) := dk_182 1 137 (dk_at dksX5_paysOf_0 17 rfl rfl)
theorem dX5_paysOf_20 : decode cX5_paysOf 20 = .ok (.iconst 0, 1) := dk_3 (dk_at dksX5_paysOf_0 20 rfl rfl)
theorem dX5_paysOf_21 : decode cX5_paysOf 21 = .ok (.bipush 99, 2) := dk_16 99 (dk_at dksX5_paysOf_0 21 rfl rfl)
theorem dX5_paysOf_23 : decode cX5_paysOf 23 = .ok (.invokestatic 397, 3) := dk_184 1 141 (dk_at dksX5_paysOf_1 0 rfl rfl)
theorem dX5_paysOf_26 : decode cX5_paysOf 26 = .ok (.ireturn, 1) := dk_172 (dk_at dksX5_paysOf_1 3 rfl rfl)
abbrev cX5_tells : ByteArray := prog_22_method_64_code
def yX5_tells : MethodName := ⟨RX5, "tells", "(IIIIIIJ)J"⟩
def dkwX5_tells_9 : List UInt8 := [10, 167, 0, 7, 42, 180, 1, 131, 55, 9, 132, 11, 1, 167, 255, 188, 22, 9, 173]
abbrev dktX5_tells_9 : List UInt8 := dkwX5_tells_9 ++ []
def dkwX5_tells_8 : List UInt8 := [180, 0, 13, 21, 12, 46, 27, 160, 0, 27, 42, 21, 12, 182, 1, 134, 153, 0, 18, 27, 6, 160, 0, 7]
abbrev dktX5_tells_8 : List UInt8 := dkwX5_tells_8 ++ dktX5_tells_9
def dkwX5_tells_7 : List UInt8 := [180, 1, 114, 4, 96, 46, 162, 0, 58, 42, 180, 1, 114, 5, 96, 16, 8, 21, 11, 104, 96, 54, 12, 42]
abbrev dktX5_tells_7 : List UInt8 := dkwX5_tells_7 ++ dktX5_tells_8
def dkwX5_tells_6 : List UInt8 := [180, 0, 13, 16, 8, 46, 133, 80, 22, 7, 55, 9, 3, 54, 11, 21, 11, 42, 180, 0, 13, 42]
abbrev dktX5_tells_6 : List UInt8 := dkwX5_tells_6 ++ dktX5_tells_7
def dkwX5_tells_5 : List UInt8 := [133, 80, 42, 180, 0, 101, 16, 9, 42, 180, 0, 13, 16, 6, 46, 133, 80, 42, 180, 0, 101, 16, 10, 42]
abbrev dktX5_tells_5 : List UInt8 := dkwX5_tells_5 ++ dktX5_tells_6
def dkwX5_tells_4 : List UInt8 := [16, 6, 21, 4, 133, 80, 42, 180, 0, 101, 16, 7, 21, 5, 133, 80, 42, 180, 0, 101, 16, 8, 21, 6]
abbrev dktX5_tells_4 : List UInt8 := dkwX5_tells_4 ++ dktX5_tells_5
def dkwX5_tells_3 : List UInt8 := [180, 0, 101, 7, 42, 28, 182, 0, 176, 133, 80, 42, 180, 0, 101, 8, 29, 133, 80, 42, 180, 0, 101]
abbrev dktX5_tells_3 : List UInt8 := dkwX5_tells_3 ++ dktX5_tells_4
def dkwX5_tells_2 : List UInt8 := [16, 13, 28, 96, 46, 133, 80, 42, 180, 0, 101, 6, 42, 180, 0, 13, 16, 31, 28, 96, 46, 133, 80, 42]
abbrev dktX5_tells_2 : List UInt8 := dkwX5_tells_2 ++ dktX5_tells_3
def dkwX5_tells_1 : List UInt8 := [8, 46, 104, 96, 181, 1, 114, 42, 180, 0, 101, 4, 28, 133, 80, 42, 180, 0, 101, 5, 42, 180, 0, 13]
abbrev dktX5_tells_1 : List UInt8 := dkwX5_tells_1 ++ dktX5_tells_2
def dkwX5_tells_0 : List UInt8 := [42, 180, 0, 13, 8, 46, 2, 160, 0, 6, 22, 7, 173, 42, 17, 0, 150, 17, 3, 132, 42, 180, 0, 13]
abbrev dktX5_tells_0 : List UInt8 := dkwX5_tells_0 ++ dktX5_tells_1
theorem dksX5_tells_0 : cX5_tells.data.toList.drop 0 = dktX5_tells_0 := by decide +kernel
theorem dksX5_tells_1 : cX5_tells.data.toList.drop 24 = dktX5_tells_1 := dk_seg dksX5_tells_0 24 rfl rfl
theorem dksX5_tells_2 : cX5_tells.data.toList.drop 48 = dktX5_tells_2 := dk_seg dksX5_tells_1 24 rfl rfl
theorem dksX5_tells_3 : cX5_tells.data.toList.drop 72 = dktX5_tells_3 := dk_seg dksX5_tells_2 24 rfl rfl
theorem dksX5_tells_4 : cX5_tells.data.toList.drop 95 = dktX5_tells_4 := dk_seg dksX5_tells_3 23 rfl rfl
theorem dksX5_tells_5 : cX5_tells.data.toList.drop 119 = dktX5_tells_5 := dk_seg dksX5_tells_4 24 rfl rfl
theorem dksX5_tells_6 : cX5_tells.data.toList.drop 143 = dktX5_tells_6 := dk_seg dksX5_tells_5 24 rfl rfl
theorem dksX5_tells_7 : cX5_tells.data.toList.drop 165 = dktX5_tells_7 := dk_seg dksX5_tells_6 22 rfl rfl
theorem dksX5_tells_8 : cX5_tells.data.toList.drop 189 = dktX5_tells_8 := dk_seg dksX5_tells_7 24 rfl rfl
theorem dksX5_tells_9 : cX5_tells.data.toList.drop 213 = dktX5_tells_9 := dk_seg dksX5_tells_8 24 rfl rfl
theorem dX5_tells_0 : decode cX5_tells 0 = .ok (.aload_n 0, 1) := dk_42 (dk_at dksX5_tells_0 0 rfl rfl)
theorem dX5_tells_1 : decode cX5_tells 1 = .ok (.getfield 13, 3) := dk_180 0 13 (dk_at dksX5_tells_0 1 rfl rfl)
theorem dX5_tells_4 : decode cX5_tells 4 = .ok (.iconst 5, 1) := dk_8 (dk_at dksX5_tells_0 4 rfl rfl)
theorem dX5_tells_5 : decode cX5_tells 5 = .ok (.iaload, 1) := dk_46 (dk_at dksX5_tells_0 5 rfl rfl)
theorem dX5_tells_6 : decode cX5_tells 6 = .ok (.iconst (-1), 1) := dk_2 (dk_at dksX5_tells_0 6 rfl rfl)
theorem dX5_tells_7 : decode cX5_tells 7 = .ok (.if_icmp .ne 6, 3) := dk_160 0 6 (dk_at dksX5_tells_0 7 rfl rfl)
theorem dX5_tells_10 : decode cX5_tells 10 = .ok (.lload 7, 2) := dk_22 7 (dk_at dksX5_tells_0 10 rfl rfl)
theorem dX5_tells_12 : decode cX5_tells 12 = .ok (.lreturn, 1) := dk_173 (dk_at dksX5_tells_0 12 rfl rfl)
theorem dX5_tells_13 : decode cX5_tells 13 = .ok (.aload_n 0, 1) := dk_42 (dk_at dksX5_tells_0 13 rfl rfl)
theorem dX5_tells_14 : decode cX5_tells 14 = .ok (.sipush 150, 3) := dk_17 0 150 (dk_at dksX5_tells_0 14 rfl rfl)
theorem dX5_tells_17 : decode cX5_tells 17 = .ok (.sipush 900, 3) := dk_17 3 132 (dk_at dksX5_tells_0 17 rfl rfl)
theorem dX5_tells_20 : decode cX5_tells 20 = .ok (.aload_n 0, 1) := dk_42 (dk_at dksX5_tells_0 20 rfl rfl)
theorem dX5_tells_21 : decode cX5_tells 21 = .ok (.getfield 13, 3) := dk_180 0 13 (dk_at dksX5_tells_0 21 rfl rfl)
theorem dX5_tells_24 : decode cX5_tells 24 = .ok (.iconst 5, 1) := dk_8 (dk_at dksX5_tells_1 0 rfl rfl)
theorem dX5_tells_25 : decode cX5_tells 25 = .ok (.iaload, 1) := dk_46 (dk_at dksX5_tells_1 1 rfl rfl)
theorem dX5_tells_26 : decode cX5_tells 26 = .ok (.imul, 1) := dk_104 (dk_at dksX5_tells_1 2 rfl rfl)
theorem dX5_tells_27 : decode cX5_tells 27 = .ok (.iadd, 1) := dk_96 (dk_at dksX5_tells_1 3 rfl rfl)
theorem dX5_tells_28 : decode cX5_tells 28 = .ok (.putfield 370, 3) := dk_181 1 114 (dk_at dksX5_tells_1 4 rfl rfl)
theorem dX5_tells_31 : decode cX5_tells 31 = .ok (.aload_n 0, 1) := dk_42 (dk_at dksX5_tells_1 7 rfl rfl)
theorem dX5_tells_32 : decode cX5_tells 32 = .ok (.getfield 101, 3) := dk_180 0 101 (dk_at dksX5_tells_1 8 rfl rfl)
theorem dX5_tells_35 : decode cX5_tells 35 = .ok (.iconst 1, 1) := dk_4 (dk_at dksX5_tells_1 11 rfl rfl)
theorem dX5_tells_36 : decode cX5_tells 36 = .ok (.iload_n 2, 1) := dk_28 (dk_at dksX5_tells_1 12 rfl rfl)
theorem dX5_tells_37 : decode cX5_tells 37 = .ok (.i2l, 1) := dk_133 (dk_at dksX5_tells_1 13 rfl rfl)
theorem dX5_tells_38 : decode cX5_tells 38 = .ok (.lastore, 1) := dk_80 (dk_at dksX5_tells_1 14 rfl rfl)
theorem dX5_tells_39 : decode cX5_tells 39 = .ok (.aload_n 0, 1) := dk_42 (dk_at dksX5_tells_1 15 rfl rfl)
theorem dX5_tells_40 : decode cX5_tells 40 = .ok (.getfield 101, 3) := dk_180 0 101 (dk_at dksX5_tells_1 16 rfl rfl)
theorem dX5_tells_43 : decode cX5_tells 43 = .ok (.iconst 2, 1) := dk_5 (dk_at dksX5_tells_1 19 rfl rfl)
theorem dX5_tells_44 : decode cX5_tells 44 = .ok (.aload_n 0, 1) := dk_42 (dk_at dksX5_tells_1 20 rfl rfl)
theorem dX5_tells_45 : decode cX5_tells 45 = .ok (.getfield 13, 3) := dk_180 0 13 (dk_at dksX5_tells_1 21 rfl rfl)
theorem dX5_tells_48 : decode cX5_tells 48 = .ok (.bipush 13, 2) := dk_16 13 (dk_at dksX5_tells_2 0 rfl rfl)
theorem dX5_tells_50 : decode cX5_tells 50 = .ok (.iload_n 2, 1) := dk_28 (dk_at dksX5_tells_2 2 rfl rfl)
theorem dX5_tells_51 : decode cX5_tells 51 = .ok (.iadd, 1) := dk_96 (dk_at dksX5_tells_2 3 rfl rfl)
theorem dX5_tells_52 : decode cX5_tells 52 = .ok (.iaload, 1) := dk_46 (dk_at dksX5_tells_2 4 rfl rfl)
theorem dX5_tells_53 : decode cX5_tells 53 = .ok (.i2l, 1) := dk_133 (dk_at dksX5_tells_2 5 rfl rfl)
theorem dX5_tells_54 : decode cX5_tells 54 = .ok (.lastore, 1) := dk_80 (dk_at dksX5_tells_2 6 rfl rfl)
theorem dX5_tells_55 : decode cX5_tells 55 = .ok (.aload_n 0, 1) := dk_42 (dk_at dksX5_tells_2 7 rfl rfl)
theorem dX5_tells_56 : decode cX5_tells 56 = .ok (.getfield 101, 3) := dk_180 0 101 (dk_at dksX5_tells_2 8 rfl rfl)
theorem dX5_tells_59 : decode cX5_tells 59 = .ok (.iconst 3, 1) := dk_6 (dk_at dksX5_tells_2 11 rfl rfl)
theorem dX5_tells_60 : decode cX5_tells 60 = .ok (.aload_n 0, 1) := dk_42 (dk_at dksX5_tells_2 12 rfl rfl)
theorem dX5_tells_61 : decode cX5_tells 61 = .ok (.getfield 13, 3) := dk_180 0 13 (dk_at dksX5_tells_2 13 rfl rfl)
theorem dX5_tells_64 : decode cX5_tells 64 = .ok (.bipush 31, 2) := dk_16 31 (dk_at dksX5_tells_2 16 rfl rfl)
theorem dX5_tells_66 : decode cX5_tells 66 = .ok (.iload_n 2, 1) := dk_28 (dk_at dksX5_tells_2 18 rfl rfl)
theorem dX5_tells_67 : decode cX5_tells 67 = .ok (.iadd, 1) := dk_96 (dk_at dksX5_tells_2 19 rfl rfl)
theorem dX5_tells_68 : decode cX5_tells 68 = .ok (.iaload, 1) := dk_46 (dk_at dksX5_tells_2 20 rfl rfl)
theorem dX5_tells_69 : decode cX5_tells 69 = .ok (.i2l, 1) := dk_133 (dk_at dksX5_tells_2 21 rfl rfl)
theorem dX5_tells_70 : decode cX5_tells 70 = .ok (.lastore, 1) := dk_80 (dk_at dksX5_tells_2 22 rfl rfl)
theorem dX5_tells_71 : decode cX5_tells 71 = .ok (.aload_n 0, 1) := dk_42 (dk_at dksX5_tells_2 23 rfl rfl)
theorem dX5_tells_72 : decode cX5_tells 72 = .ok (.getfield 101, 3) := dk_180 0 101 (dk_at dksX5_tells_3 0 rfl rfl)
theorem dX5_tells_75 : decode cX5_tells 75 = .ok (.iconst 4, 1) := dk_7 (dk_at dksX5_tells_3 3 rfl rfl)
theorem dX5_tells_76 : decode cX5_tells 76 = .ok (.aload_n 0, 1) := dk_42 (dk_at dksX5_tells_3 4 rfl rfl)
theorem dX5_tells_77 : decode cX5_tells 77 = .ok (.iload_n 2, 1) := dk_28 (dk_at dksX5_tells_3 5 rfl rfl)
theorem dX5_tells_78 : decode cX5_tells 78 = .ok (.invokevirtual 176, 3) := dk_182 0 176 (dk_at dksX5_tells_3 6 rfl rfl)
theorem dX5_tells_81 : decode cX5_tells 81 = .ok (.i2l, 1) := dk_133 (dk_at dksX5_tells_3 9 rfl rfl)
theorem dX5_tells_82 : decode cX5_tells 82 = .ok (.lastore, 1) := dk_80 (dk_at dksX5_tells_3 10 rfl rfl)
theorem dX5_tells_83 : decode cX5_tells 83 = .ok (.aload_n 0, 1) := dk_42 (dk_at dksX5_tells_3 11 rfl rfl)
theorem dX5_tells_84 : decode cX5_tells 84 = .ok (.getfield 101, 3) := dk_180 0 101 (dk_at dksX5_tells_3 12 rfl rfl)
theorem dX5_tells_87 : decode cX5_tells 87 = .ok (.iconst 5, 1) := dk_8 (dk_at dksX5_tells_3 15 rfl rfl)
theorem dX5_tells_88 : decode cX5_tells 88 = .ok (.iload_n 3, 1) := dk_29 (dk_at dksX5_tells_3 16 rfl rfl)
theorem dX5_tells_89 : decode cX5_tells 89 = .ok (.i2l, 1) := dk_133 (dk_at dksX5_tells_3 17 rfl rfl)
theorem dX5_tells_90 : decode cX5_tells 90 = .ok (.lastore, 1) := dk_80 (dk_at dksX5_tells_3 18 rfl rfl)
theorem dX5_tells_91 : decode cX5_tells 91 = .ok (.aload_n 0, 1) := dk_42 (dk_at dksX5_tells_3 19 rfl rfl)
theorem dX5_tells_92 : decode cX5_tells 92 = .ok (.getfield 101, 3) := dk_180 0 101 (dk_at dksX5_tells_3 20 rfl rfl)
theorem dX5_tells_95 : decode cX5_tells 95 = .ok (.bipush 6, 2) := dk_16 6 (dk_at dksX5_tells_4 0 rfl rfl)
theorem dX5_tells_97 : decode cX5_tells 97 = .ok (.iload 4, 2) := dk_21 4 (dk_at dksX5_tells_4 2 rfl rfl)
theorem dX5_tells_99 : decode cX5_tells 99 = .ok (.i2l, 1) := dk_133 (dk_at dksX5_tells_4 4 rfl rfl)
theorem dX5_tells_100 : decode cX5_tells 100 = .ok (.lastore, 1) := dk_80 (dk_at dksX5_tells_4 5 rfl rfl)
theorem dX5_tells_101 : decode cX5_tells 101 = .ok (.aload_n 0, 1) := dk_42 (dk_at dksX5_tells_4 6 rfl rfl)
theorem dX5_tells_102 : decode cX5_tells 102 = .ok (.getfield 101, 3) := dk_180 0 101 (dk_at dksX5_tells_4 7 rfl rfl)
theorem dX5_tells_105 : decode cX5_tells 105 = .ok (.bipush 7, 2) := dk_16 7 (dk_at dksX5_tells_4 10 rfl rfl)
theorem dX5_tells_107 : decode cX5_tells 107 = .ok (.iload 5, 2) := dk_21 5 (dk_at dksX5_tells_4 12 rfl rfl)
theorem dX5_tells_109 : decode cX5_tells 109 = .ok (.i2l, 1) := dk_133 (dk_at dksX5_tells_4 14 rfl rfl)
theorem dX5_tells_110 : decode cX5_tells 110 = .ok (.lastore, 1) := dk_80 (dk_at dksX5_tells_4 15 rfl rfl)
theorem dX5_tells_111 : decode cX5_tells 111 = .ok (.aload_n 0, 1) := dk_42 (dk_at dksX5_tells_4 16 rfl rfl)
theorem dX5_tells_112 : decode cX5_tells 112 = .ok (.getfield 101, 3) := dk_180 0 101 (dk_at dksX5_tells_4 17 rfl rfl)
theorem dX5_tells_115 : decode cX5_tells 115 = .ok (.bipush 8, 2) := dk_16 8 (dk_at dksX5_tells_4 20 rfl rfl)
theorem dX5_tells_117 : decode cX5_tells 117 = .ok (.iload 6, 2) := dk_21 6 (dk_at dksX5_tells_4 22 rfl rfl)
theorem dX5_tells_119 : decode cX5_tells 119 = .ok (.i2l, 1) := dk_133 (dk_at dksX5_tells_5 0 rfl rfl)
theorem dX5_tells_120 : decode cX5_tells 120 = .ok (.lastore, 1) := dk_80 (dk_at dksX5_tells_5 1 rfl rfl)
theorem dX5_tells_121 : decode cX5_tells 121 = .ok (.aload_n 0, 1) := dk_42 (dk_at dksX5_tells_5 2 rfl rfl)
theorem dX5_tells_122 : decode cX5_tells 122 = .ok (.getfield 101, 3) := dk_180 0 101 (dk_at dksX5_tells_5 3 rfl rfl)
theorem dX5_tells_125 : decode cX5_tells 125 = .ok (.bipush 9, 2) := dk_16 9 (dk_at dksX5_tells_5 6 rfl rfl)
theorem dX5_tells_127 : decode cX5_tells 127 = .ok (.aload_n 0, 1) := dk_42 (dk_at dksX5_tells_5 8 rfl rfl)
theorem dX5_tells_128 : decode cX5_tells 128 = .ok (.getfield 13, 3) := dk_180 0 13 (dk_at dksX5_tells_5 9 rfl rfl)
theorem dX5_tells_131 : decode cX5_tells 131 = .ok (.bipush 6, 2) := dk_16 6 (dk_at dksX5_tells_5 12 rfl rfl)
theorem dX5_tells_133 : decode cX5_tells 133 = .ok (.iaload, 1) := dk_46 (dk_at dksX5_tells_5 14 rfl rfl)
theorem dX5_tells_134 : decode cX5_tells 134 = .ok (.i2l, 1) := dk_133 (dk_at dksX5_tells_5 15 rfl rfl)
theorem dX5_tells_135 : decode cX5_tells 135 = .ok (.lastore, 1) := dk_80 (dk_at dksX5_tells_5 16 rfl rfl)
theorem dX5_tells_136 : decode cX5_tells 136 = .ok (.aload_n 0, 1) := dk_42 (dk_at dksX5_tells_5 17 rfl rfl)
theorem dX5_tells_137 : decode cX5_tells 137 = .ok (.getfield 101, 3) := dk_180 0 101 (dk_at dksX5_tells_5 18 rfl rfl)
theorem dX5_tells_140 : decode cX5_tells 140 = .ok (.bipush 10, 2) := dk_16 10 (dk_at dksX5_tells_5 21 rfl rfl)
theorem dX5_tells_142 : decode cX5_tells 142 = .ok (.aload_n 0, 1) := dk_42 (dk_at dksX5_tells_5 23 rfl rfl)
theorem dX5_tells_143 : decode cX5_tells 143 = .ok (.getfield 13, 3) := dk_180 0 13 (dk_at dksX5_tells_6 0 rfl rfl)
theorem dX5_tells_146 : decode cX5_tells 146 = .ok (.bipush 8, 2) := dk_16 8 (dk_at dksX5_tells_6 3 rfl rfl)
theorem dX5_tells_148 : decode cX5_tells 148 = .ok (.iaload, 1) := dk_46 (dk_at dksX5_tells_6 5 rfl rfl)
theorem dX5_tells_149 : decode cX5_tells 149 = .ok (.i2l, 1) := dk_133 (dk_at dksX5_tells_6 6 rfl rfl)
theorem dX5_tells_150 : decode cX5_tells 150 = .ok (.lastore, 1) := dk_80 (dk_at dksX5_tells_6 7 rfl rfl)
theorem dX5_tells_151 : decode cX5_tells 151 = .ok (.lload 7, 2) := dk_22 7 (dk_at dksX5_tells_6 8 rfl rfl)
theorem dX5_tells_153 : decode cX5_tells 153 = .ok (.lstore 9, 2) := dk_55 9 (dk_at dksX5_tells_6 10 rfl rfl)
theorem dX5_tells_155 : decode cX5_tells 155 = .ok (.iconst 0, 1) := dk_3 (dk_at dksX5_tells_6 12 rfl rfl)
theorem dX5_tells_156 : decode cX5_tells 156 = .ok (.istore 11, 2) := dk_54 11 (dk_at dksX5_tells_6 13 rfl rfl)
theorem dX5_tells_158 : decode cX5_tells 158 = .ok (.iload 11, 2) := dk_21 11 (dk_at dksX5_tells_6 15 rfl rfl)
theorem dX5_tells_160 : decode cX5_tells 160 = .ok (.aload_n 0, 1) := dk_42 (dk_at dksX5_tells_6 17 rfl rfl)
theorem dX5_tells_161 : decode cX5_tells 161 = .ok (.getfield 13, 3) := dk_180 0 13 (dk_at dksX5_tells_6 18 rfl rfl)
theorem dX5_tells_164 : decode cX5_tells 164 = .ok (.aload_n 0, 1) := dk_42 (dk_at dksX5_tells_6 21 rfl rfl)
theorem dX5_tells_165 : decode cX5_tells 165 = .ok (.getfield 370, 3) := dk_180 1 114 (dk_at dksX5_tells_7 0 rfl rfl)
theorem dX5_tells_168 : decode cX5_tells 168 = .ok (.iconst 1, 1) := dk_4 (dk_at dksX5_tells_7 3 rfl rfl)
theorem dX5_tells_169 : decode cX5_tells 169 = .ok (.iadd, 1) := dk_96 (dk_at dksX5_tells_7 4 rfl rfl)
theorem dX5_tells_170 : decode cX5_tells 170 = .ok (.iaload, 1) := dk_46 (dk_at dksX5_tells_7 5 rfl rfl)
theorem dX5_tells_171 : decode cX5_tells 171 = .ok (.if_icmp .ge 58, 3) := dk_162 0 58 (dk_at dksX5_tells_7 6 rfl rfl)
theorem dX5_tells_174 : decode cX5_tells 174 = .ok (.aload_n 0, 1) := dk_42 (dk_at dksX5_tells_7 9 rfl rfl)
theorem dX5_tells_175 : decode cX5_tells 175 = .ok (.getfield 370, 3) := dk_180 1 114 (dk_at dksX5_tells_7 10 rfl rfl)
theorem dX5_tells_178 : decode cX5_tells 178 = .ok (.iconst 2, 1) := dk_5 (dk_at dksX5_tells_7 13 rfl rfl)
theorem dX5_tells_179 : decode cX5_tells 179 = .ok (.iadd, 1) := dk_96 (dk_at dksX5_tells_7 14 rfl rfl)
theorem dX5_tells_180 : decode cX5_tells 180 = .ok (.bipush 8, 2) := dk_16 8 (dk_at dksX5_tells_7 15 rfl rfl)
theorem dX5_tells_182 : decode cX5_tells 182 = .ok (.iload 11, 2) := dk_21 11 (dk_at dksX5_tells_7 17 rfl rfl)
theorem dX5_tells_184 : decode cX5_tells 184 = .ok (.imul, 1) := dk_104 (dk_at dksX5_tells_7 19 rfl rfl)
theorem dX5_tells_185 : decode cX5_tells 185 = .ok (.iadd, 1) := dk_96 (dk_at dksX5_tells_7 20 rfl rfl)
theorem dX5_tells_186 : decode cX5_tells 186 = .ok (.istore 12, 2) := dk_54 12 (dk_at dksX5_tells_7 21 rfl rfl)
theorem dX5_tells_188 : decode cX5_tells 188 = .ok (.aload_n 0, 1) := dk_42 (dk_at dksX5_tells_7 23 rfl rfl)
theorem dX5_tells_189 : decode cX5_tells 189 = .ok (.getfield 13, 3) := dk_180 0 13 (dk_at dksX5_tells_8 0 rfl rfl)
theorem dX5_tells_192 : decode cX5_tells 192 = .ok (.iload 12, 2) := dk_21 12 (dk_at dksX5_tells_8 3 rfl rfl)
theorem dX5_tells_194 : decode cX5_tells 194 = .ok (.iaload, 1) := dk_46 (dk_at dksX5_tells_8 5 rfl rfl)
theorem dX5_tells_195 : decode cX5_tells 195 = .ok (.iload_n 1, 1) := dk_27 (dk_at dksX5_tells_8 6 rfl rfl)
theorem dX5_tells_196 : decode cX5_tells 196 = .ok (.if_icmp .ne 27, 3) := dk_160 0 27 (dk_at dksX5_tells_8 7 rfl rfl)
theorem dX5_tells_199 : decode cX5_tells 199 = .ok (.aload_n 0, 1) := dk_42 (dk_at dksX5_tells_8 10 rfl rfl)
theorem dX5_tells_200 : decode cX5_tells 200 = .ok (.iload 12, 2) := dk_21 12 (dk_at dksX5_tells_8 11 rfl rfl)
theorem dX5_tells_202 : decode cX5_tells 202 = .ok (.invokevirtual 390, 3) := dk_182 1 134 (dk_at dksX5_tells_8 13 rfl rfl)
theorem dX5_tells_205 : decode cX5_tells 205 = .ok (.ifCond .eq 18, 3) := dk_153 0 18 (dk_at dksX5_tells_8 16 rfl rfl)
theorem dX5_tells_208 : decode cX5_tells 208 = .ok (.iload_n 1, 1) := dk_27 (dk_at dksX5_tells_8 19 rfl rfl)
theorem dX5_tells_209 : decode cX5_tells 209 = .ok (.iconst 3, 1) := dk_6 (dk_at dksX5_tells_8 20 rfl rfl)
theorem dX5_tells_210 : decode cX5_tells 210 = .ok (.if_icmp .ne 7, 3) := dk_160 0 7 (dk_at dksX5_tells_8 21 rfl rfl)
theorem dX5_tells_213 : decode cX5_tells 213 = .ok (.lconst 1, 1) := dk_10 (dk_at dksX5_tells_9 0 rfl rfl)
theorem dX5_tells_214 : decode cX5_tells 214 = .ok (.goto 7, 3) := dk_167 0 7 (dk_at dksX5_tells_9 1 rfl rfl)
theorem dX5_tells_217 : decode cX5_tells 217 = .ok (.aload_n 0, 1) := dk_42 (dk_at dksX5_tells_9 4 rfl rfl)
theorem dX5_tells_218 : decode cX5_tells 218 = .ok (.getfield 387, 3) := dk_180 1 131 (dk_at dksX5_tells_9 5 rfl rfl)
theorem dX5_tells_221 : decode cX5_tells 221 = .ok (.lstore 9, 2) := dk_55 9 (dk_at dksX5_tells_9 8 rfl rfl)
theorem dX5_tells_223 : decode cX5_tells 223 = .ok (.iinc 11 1, 3) := dk_132 11 1 (dk_at dksX5_tells_9 10 rfl rfl)
theorem dX5_tells_226 : decode cX5_tells 226 = .ok (.goto (-68), 3) := dk_167 255 188 (dk_at dksX5_tells_9 13 rfl rfl)
theorem dX5_tells_229 : decode cX5_tells 229 = .ok (.lload 9, 2) := dk_22 9 (dk_at dksX5_tells_9 16 rfl rfl)
theorem dX5_tells_231 : decode cX5_tells 231 = .ok (.lreturn, 1) := dk_173 (dk_at dksX5_tells_9 18 rfl rfl)
abbrev cX5_isSo : ByteArray := prog_22_method_63_code
def yX5_isSo : MethodName := ⟨RX5, "isSo", "(I)Z"⟩
def dkwX5_isSo_4 : List UInt8 := [180, 1, 125, 181, 1, 131, 42, 180, 1, 111, 154, 0, 7, 4, 167, 0, 4, 3, 172, 4, 172]
abbrev dktX5_isSo_4 : List UInt8 := dkwX5_isSo_4 ++ []
def dkwX5_isSo_3 : List UInt8 := [42, 42, 180, 0, 13, 27, 6, 96, 46, 42, 180, 0, 13, 27, 7, 96, 46, 182, 1, 128, 42, 42]
abbrev dktX5_isSo_3 : List UInt8 := dkwX5_isSo_3 ++ dktX5_isSo_4
def dkwX5_isSo_2 : List UInt8 := [154, 0, 12, 42, 180, 1, 125, 9, 148, 154, 0, 5, 3, 172, 42, 180, 0, 13, 27, 46, 6, 159, 0, 44]
abbrev dktX5_isSo_2 : List UInt8 := dkwX5_isSo_2 ++ dktX5_isSo_3
def dkwX5_isSo_1 : List UInt8 := [180, 0, 13, 27, 8, 96, 46, 42, 180, 0, 13, 27, 16, 6, 96, 46, 182, 1, 128, 42, 180, 1, 111]
abbrev dktX5_isSo_1 : List UInt8 := dkwX5_isSo_1 ++ dktX5_isSo_2
def dkwX5_isSo_0 : List UInt8 := [42, 180, 0, 13, 27, 8, 96, 46, 42, 180, 0, 13, 27, 16, 6, 96, 46, 162, 0, 42, 42, 42]
abbrev dktX5_isSo_0 : List UInt8 := dkwX5_isSo_0 ++ dktX5_isSo_1
theorem dksX5_isSo_0 : cX5_isSo.data.toList.drop 0 = dktX5_isSo_0 := by decide +kernel
theorem dksX5_isSo_1 : cX5_isSo.data.toList.drop 22 = dktX5_isSo_1 := dk_seg dksX5_isSo_0 22 rfl rfl
theorem dksX5_isSo_2 : cX5_isSo.data.toList.drop 45 = dktX5_isSo_2 := dk_seg dksX5_isSo_1 23 rfl rfl
theorem dksX5_isSo_3 : cX5_isSo.data.toList.drop 69 = dktX5_isSo_3 := dk_seg dksX5_isSo_2 24 rfl rfl
theorem dksX5_isSo_4 : cX5_isSo.data.toList.drop 91 = dktX5_isSo_4 := dk_seg dksX5_isSo_3 22 rfl rfl
theorem dX5_isSo_0 : decode cX5_isSo 0 = .ok (.aload_n 0, 1) := dk_42 (dk_at dksX5_isSo_0 0 rfl rfl)
theorem dX5_isSo_1 : decode cX5_isSo 1 = .ok (.getfield 13, 3) := dk_180 0 13 (dk_at dksX5_isSo_0 1 rfl rfl)
theorem dX5_isSo_4 : decode cX5_isSo 4 = .ok (.iload_n 1, 1) := dk_27 (dk_at dksX5_isSo_0 4 rfl rfl)
theorem dX5_isSo_5 : decode cX5_isSo 5 = .ok (.iconst 5, 1) := dk_8 (dk_at dksX5_isSo_0 5 rfl rfl)
theorem dX5_isSo_6 : decode cX5_isSo 6 = .ok (.iadd, 1) := dk_96 (dk_at dksX5_isSo_0 6 rfl rfl)
theorem dX5_isSo_7 : decode cX5_isSo 7 = .ok (.iaload, 1) := dk_46 (dk_at dksX5_isSo_0 7 rfl rfl)
theorem dX5_isSo_8 : decode cX5_isSo 8 = .ok (.aload_n 0, 1) := dk_42 (dk_at dksX5_isSo_0 8 rfl rfl)
theorem dX5_isSo_9 : decode cX5_isSo 9 = .ok (.getfield 13, 3) := dk_180 0 13 (dk_at dksX5_isSo_0 9 rfl rfl)
theorem dX5_isSo_12 : decode cX5_isSo 12 = .ok (.iload_n 1, 1) := dk_27 (dk_at dksX5_isSo_0 12 rfl rfl)
theorem dX5_isSo_13 : decode cX5_isSo 13 = .ok (.bipush 6, 2) := dk_16 6 (dk_at dksX5_isSo_0 13 rfl rfl)
theorem dX5_isSo_15 : decode cX5_isSo 15 = .ok (.iadd, 1) := dk_96 (dk_at dksX5_isSo_0 15 rfl rfl)
theorem dX5_isSo_16 : decode cX5_isSo 16 = .ok (.iaload, 1) := dk_46 (dk_at dksX5_isSo_0 16 rfl rfl)
theorem dX5_isSo_17 : decode cX5_isSo 17 = .ok (.if_icmp .ge 42, 3) := dk_162 0 42 (dk_at dksX5_isSo_0 17 rfl rfl)
theorem dX5_isSo_20 : decode cX5_isSo 20 = .ok (.aload_n 0, 1) := dk_42 (dk_at dksX5_isSo_0 20 rfl rfl)
theorem dX5_isSo_21 : decode cX5_isSo 21 = .ok (.aload_n 0, 1) := dk_42 (dk_at dksX5_isSo_0 21 rfl rfl)
theorem dX5_isSo_22 : decode cX5_isSo 22 = .ok (.getfield 13, 3) := dk_180 0 13 (dk_at dksX5_isSo_1 0 rfl rfl)
theorem dX5_isSo_25 : decode cX5_isSo 25 = .ok (.iload_n 1, 1) := dk_27 (dk_at dksX5_isSo_1 3 rfl rfl)
theorem dX5_isSo_26 : decode cX5_isSo 26 = .ok (.iconst 5, 1) := dk_8 (dk_at dksX5_isSo_1 4 rfl rfl)
theorem dX5_isSo_27 : decode cX5_isSo 27 = .ok (.iadd, 1) := dk_96 (dk_at dksX5_isSo_1 5 rfl rfl)
theorem dX5_isSo_28 : decode cX5_isSo 28 = .ok (.iaload, 1) := dk_46 (dk_at dksX5_isSo_1 6 rfl rfl)
theorem dX5_isSo_29 : decode cX5_isSo 29 = .ok (.aload_n 0, 1) := dk_42 (dk_at dksX5_isSo_1 7 rfl rfl)
theorem dX5_isSo_30 : decode cX5_isSo 30 = .ok (.getfield 13, 3) := dk_180 0 13 (dk_at dksX5_isSo_1 8 rfl rfl)
theorem dX5_isSo_33 : decode cX5_isSo 33 = .ok (.iload_n 1, 1) := dk_27 (dk_at dksX5_isSo_1 11 rfl rfl)
theorem dX5_isSo_34 : decode cX5_isSo 34 = .ok (.bipush 6, 2) := dk_16 6 (dk_at dksX5_isSo_1 12 rfl rfl)
theorem dX5_isSo_36 : decode cX5_isSo 36 = .ok (.iadd, 1) := dk_96 (dk_at dksX5_isSo_1 14 rfl rfl)
theorem dX5_isSo_37 : decode cX5_isSo 37 = .ok (.iaload, 1) := dk_46 (dk_at dksX5_isSo_1 15 rfl rfl)
theorem dX5_isSo_38 : decode cX5_isSo 38 = .ok (.invokevirtual 384, 3) := dk_182 1 128 (dk_at dksX5_isSo_1 16 rfl rfl)
theorem dX5_isSo_41 : decode cX5_isSo 41 = .ok (.aload_n 0, 1) := dk_42 (dk_at dksX5_isSo_1 19 rfl rfl)
theorem dX5_isSo_42 : decode cX5_isSo 42 = .ok (.getfield 367, 3) := dk_180 1 111 (dk_at dksX5_isSo_1 20 rfl rfl)
theorem dX5_isSo_45 : decode cX5_isSo 45 = .ok (.ifCond .ne 12, 3) := dk_154 0 12 (dk_at dksX5_isSo_2 0 rfl rfl)
theorem dX5_isSo_48 : decode cX5_isSo 48 = .ok (.aload_n 0, 1) := dk_42 (dk_at dksX5_isSo_2 3 rfl rfl)
theorem dX5_isSo_49 : decode cX5_isSo 49 = .ok (.getfield 381, 3) := dk_180 1 125 (dk_at dksX5_isSo_2 4 rfl rfl)
theorem dX5_isSo_52 : decode cX5_isSo 52 = .ok (.lconst 0, 1) := dk_9 (dk_at dksX5_isSo_2 7 rfl rfl)
theorem dX5_isSo_53 : decode cX5_isSo 53 = .ok (.lcmp, 1) := dk_148 (dk_at dksX5_isSo_2 8 rfl rfl)
theorem dX5_isSo_54 : decode cX5_isSo 54 = .ok (.ifCond .ne 5, 3) := dk_154 0 5 (dk_at dksX5_isSo_2 9 rfl rfl)
theorem dX5_isSo_57 : decode cX5_isSo 57 = .ok (.iconst 0, 1) := dk_3 (dk_at dksX5_isSo_2 12 rfl rfl)
theorem dX5_isSo_58 : decode cX5_isSo 58 = .ok (.ireturn, 1) := dk_172 (dk_at dksX5_isSo_2 13 rfl rfl)
theorem dX5_isSo_59 : decode cX5_isSo 59 = .ok (.aload_n 0, 1) := dk_42 (dk_at dksX5_isSo_2 14 rfl rfl)
theorem dX5_isSo_60 : decode cX5_isSo 60 = .ok (.getfield 13, 3) := dk_180 0 13 (dk_at dksX5_isSo_2 15 rfl rfl)
theorem dX5_isSo_63 : decode cX5_isSo 63 = .ok (.iload_n 1, 1) := dk_27 (dk_at dksX5_isSo_2 18 rfl rfl)
theorem dX5_isSo_64 : decode cX5_isSo 64 = .ok (.iaload, 1) := dk_46 (dk_at dksX5_isSo_2 19 rfl rfl)
theorem dX5_isSo_65 : decode cX5_isSo 65 = .ok (.iconst 3, 1) := dk_6 (dk_at dksX5_isSo_2 20 rfl rfl)
theorem dX5_isSo_66 : decode cX5_isSo 66 = .ok (.if_icmp .eq 44, 3) := dk_159 0 44 (dk_at dksX5_isSo_2 21 rfl rfl)
theorem dX5_isSo_69 : decode cX5_isSo 69 = .ok (.aload_n 0, 1) := dk_42 (dk_at dksX5_isSo_3 0 rfl rfl)
theorem dX5_isSo_70 : decode cX5_isSo 70 = .ok (.aload_n 0, 1) := dk_42 (dk_at dksX5_isSo_3 1 rfl rfl)
theorem dX5_isSo_71 : decode cX5_isSo 71 = .ok (.getfield 13, 3) := dk_180 0 13 (dk_at dksX5_isSo_3 2 rfl rfl)
theorem dX5_isSo_74 : decode cX5_isSo 74 = .ok (.iload_n 1, 1) := dk_27 (dk_at dksX5_isSo_3 5 rfl rfl)
theorem dX5_isSo_75 : decode cX5_isSo 75 = .ok (.iconst 3, 1) := dk_6 (dk_at dksX5_isSo_3 6 rfl rfl)
theorem dX5_isSo_76 : decode cX5_isSo 76 = .ok (.iadd, 1) := dk_96 (dk_at dksX5_isSo_3 7 rfl rfl)
theorem dX5_isSo_77 : decode cX5_isSo 77 = .ok (.iaload, 1) := dk_46 (dk_at dksX5_isSo_3 8 rfl rfl)
theorem dX5_isSo_78 : decode cX5_isSo 78 = .ok (.aload_n 0, 1) := dk_42 (dk_at dksX5_isSo_3 9 rfl rfl)
theorem dX5_isSo_79 : decode cX5_isSo 79 = .ok (.getfield 13, 3) := dk_180 0 13 (dk_at dksX5_isSo_3 10 rfl rfl)
theorem dX5_isSo_82 : decode cX5_isSo 82 = .ok (.iload_n 1, 1) := dk_27 (dk_at dksX5_isSo_3 13 rfl rfl)
theorem dX5_isSo_83 : decode cX5_isSo 83 = .ok (.iconst 4, 1) := dk_7 (dk_at dksX5_isSo_3 14 rfl rfl)
theorem dX5_isSo_84 : decode cX5_isSo 84 = .ok (.iadd, 1) := dk_96 (dk_at dksX5_isSo_3 15 rfl rfl)
theorem dX5_isSo_85 : decode cX5_isSo 85 = .ok (.iaload, 1) := dk_46 (dk_at dksX5_isSo_3 16 rfl rfl)
theorem dX5_isSo_86 : decode cX5_isSo 86 = .ok (.invokevirtual 384, 3) := dk_182 1 128 (dk_at dksX5_isSo_3 17 rfl rfl)
theorem dX5_isSo_89 : decode cX5_isSo 89 = .ok (.aload_n 0, 1) := dk_42 (dk_at dksX5_isSo_3 20 rfl rfl)
theorem dX5_isSo_90 : decode cX5_isSo 90 = .ok (.aload_n 0, 1) := dk_42 (dk_at dksX5_isSo_3 21 rfl rfl)
theorem dX5_isSo_91 : decode cX5_isSo 91 = .ok (.getfield 381, 3) := dk_180 1 125 (dk_at dksX5_isSo_4 0 rfl rfl)
theorem dX5_isSo_94 : decode cX5_isSo 94 = .ok (.putfield 387, 3) := dk_181 1 131 (dk_at dksX5_isSo_4 3 rfl rfl)
theorem dX5_isSo_97 : decode cX5_isSo 97 = .ok (.aload_n 0, 1) := dk_42 (dk_at dksX5_isSo_4 6 rfl rfl)
theorem dX5_isSo_98 : decode cX5_isSo 98 = .ok (.getfield 367, 3) := dk_180 1 111 (dk_at dksX5_isSo_4 7 rfl rfl)
theorem dX5_isSo_101 : decode cX5_isSo 101 = .ok (.ifCond .ne 7, 3) := dk_154 0 7 (dk_at dksX5_isSo_4 10 rfl rfl)
theorem dX5_isSo_104 : decode cX5_isSo 104 = .ok (.iconst 1, 1) := dk_4 (dk_at dksX5_isSo_4 13 rfl rfl)
theorem dX5_isSo_105 : decode cX5_isSo 105 = .ok (.goto 4, 3) := dk_167 0 4 (dk_at dksX5_isSo_4 14 rfl rfl)
theorem dX5_isSo_108 : decode cX5_isSo 108 = .ok (.iconst 0, 1) := dk_3 (dk_at dksX5_isSo_4 17 rfl rfl)
theorem dX5_isSo_109 : decode cX5_isSo 109 = .ok (.ireturn, 1) := dk_172 (dk_at dksX5_isSo_4 18 rfl rfl)
theorem dX5_isSo_110 : decode cX5_isSo 110 = .ok (.iconst 1, 1) := dk_4 (dk_at dksX5_isSo_4 19 rfl rfl)
theorem dX5_isSo_111 : decode cX5_isSo 111 = .ok (.ireturn, 1) := dk_172 (dk_at dksX5_isSo_4 20 rfl rfl)
abbrev cX5_reckonAll : ByteArray := prog_22_method_62_code
def yX5_reckonAll : MethodName := ⟨RX5, "reckonAll", "(II)V"⟩
def dkwX5_reckonAll_16 : List UInt8 := [180, 0, 107, 3, 47, 167, 0, 4, 9, 181, 1, 125, 177]
abbrev dktX5_reckonAll_16 : List UInt8 := dkwX5_reckonAll_16 ++ []
def dkwX5_reckonAll_15 : List UInt8 := [148, 154, 0, 10, 21, 6, 54, 4, 167, 0, 6, 132, 3, 255, 167, 254, 153, 42, 29, 158, 0, 12, 42]
abbrev dktX5_reckonAll_15 : List UInt8 := dkwX5_reckonAll_15 ++ dktX5_reckonAll_16
def dkwX5_reckonAll_14 : List UInt8 := [80, 167, 0, 37, 42, 180, 0, 107, 29, 4, 100, 47, 21, 5, 16, 29, 160, 0, 7, 9, 167, 0, 4, 10]
abbrev dktX5_reckonAll_14 : List UInt8 := dkwX5_reckonAll_14 ++ dktX5_reckonAll_15
def dkwX5_reckonAll_13 : List UInt8 := [21, 5, 16, 28, 160, 0, 24, 42, 180, 0, 107, 29, 4, 100, 10, 42, 180, 0, 107, 29, 4, 100, 47, 101]
abbrev dktX5_reckonAll_13 : List UInt8 := dkwX5_reckonAll_13 ++ dktX5_reckonAll_14
def dkwX5_reckonAll_12 : List UInt8 := [47, 20, 1, 121, 20, 1, 123, 184, 0, 162, 154, 0, 7, 4, 167, 0, 4, 3, 181, 1, 111, 167, 0, 65]
abbrev dktX5_reckonAll_12 : List UInt8 := dkwX5_reckonAll_12 ++ dktX5_reckonAll_13
def dkwX5_reckonAll_11 : List UInt8 := [180, 0, 107, 29, 47, 182, 1, 117, 80, 42, 42, 180, 1, 111, 154, 0, 23, 42, 180, 0, 107, 29, 4, 100]
abbrev dktX5_reckonAll_11 : List UInt8 := dkwX5_reckonAll_11 ++ dktX5_reckonAll_12
def dkwX5_reckonAll_10 : List UInt8 := [132, 3, 255, 42, 180, 0, 107, 29, 4, 100, 42, 21, 5, 42, 180, 0, 107, 29, 4, 100, 47, 42]
abbrev dktX5_reckonAll_10 : List UInt8 := dkwX5_reckonAll_10 ++ dktX5_reckonAll_11
def dkwX5_reckonAll_9 : List UInt8 := [180, 0, 13, 16, 19, 21, 6, 96, 46, 133, 80, 132, 3, 1, 167, 0, 142, 21, 5, 16, 28, 162, 0, 73]
abbrev dktX5_reckonAll_9 : List UInt8 := dkwX5_reckonAll_9 ++ dktX5_reckonAll_10
def dkwX5_reckonAll_8 : List UInt8 := [167, 0, 34, 21, 5, 7, 160, 0, 17, 42, 180, 0, 13, 16, 13, 21, 6, 96, 46, 133, 167, 0, 14, 42]
abbrev dktX5_reckonAll_8 : List UInt8 := dkwX5_reckonAll_8 ++ dktX5_reckonAll_9
def dkwX5_reckonAll_7 : List UInt8 := [16, 9, 21, 6, 96, 46, 133, 167, 0, 49, 42, 21, 6, 182, 0, 195, 154, 0, 9, 20, 0, 252]
abbrev dktX5_reckonAll_7 : List UInt8 := dkwX5_reckonAll_7 ++ dktX5_reckonAll_8
def dkwX5_reckonAll_6 : List UInt8 := [162, 0, 13, 42, 180, 0, 104, 21, 5, 47, 167, 0, 70, 21, 5, 16, 6, 160, 0, 17, 42, 180, 0, 13]
abbrev dktX5_reckonAll_6 : List UInt8 := dkwX5_reckonAll_6 ++ dktX5_reckonAll_7
def dkwX5_reckonAll_5 : List UInt8 := [133, 167, 0, 103, 42, 180, 1, 44, 154, 0, 13, 42, 180, 0, 101, 21, 5, 47, 167, 0, 86, 21, 5, 7]
abbrev dktX5_reckonAll_5 : List UInt8 := dkwX5_reckonAll_5 ++ dktX5_reckonAll_6
def dkwX5_reckonAll_4 : List UInt8 := [54, 6, 132, 4, 1, 21, 5, 16, 20, 162, 0, 126, 42, 180, 0, 107, 29, 21, 5, 154, 0, 9, 21, 6]
abbrev dktX5_reckonAll_4 : List UInt8 := dkwX5_reckonAll_4 ++ dktX5_reckonAll_5
def dkwX5_reckonAll_3 : List UInt8 := [46, 167, 0, 22, 42, 180, 0, 13, 42, 180, 1, 114, 16, 98, 96, 5, 21, 4, 104, 96, 4, 96, 46]
abbrev dktX5_reckonAll_3 : List UInt8 := dkwX5_reckonAll_3 ++ dktX5_reckonAll_4
def dkwX5_reckonAll_2 : List UInt8 := [16, 98, 96, 5, 21, 4, 104, 96, 46, 54, 5, 42, 180, 1, 44, 153, 0, 13, 42, 180, 0, 48, 21, 4]
abbrev dktX5_reckonAll_2 : List UInt8 := dkwX5_reckonAll_2 ++ dktX5_reckonAll_3
def dkwX5_reckonAll_1 : List UInt8 := [180, 1, 44, 153, 0, 13, 42, 180, 0, 45, 21, 4, 46, 167, 0, 20, 42, 180, 0, 13, 42, 180, 1, 114]
abbrev dktX5_reckonAll_1 : List UInt8 := dkwX5_reckonAll_1 ++ dktX5_reckonAll_2
def dkwX5_reckonAll_0 : List UInt8 := [42, 3, 181, 1, 111, 3, 62, 27, 54, 4, 21, 4, 28, 162, 1, 103, 42, 180, 1, 111, 154, 1, 96, 42]
abbrev dktX5_reckonAll_0 : List UInt8 := dkwX5_reckonAll_0 ++ dktX5_reckonAll_1
theorem dksX5_reckonAll_0 : cX5_reckonAll.data.toList.drop 0 = dktX5_reckonAll_0 := by decide +kernel
theorem dksX5_reckonAll_1 : cX5_reckonAll.data.toList.drop 24 = dktX5_reckonAll_1 := dk_seg dksX5_reckonAll_0 24 rfl rfl
theorem dksX5_reckonAll_2 : cX5_reckonAll.data.toList.drop 48 = dktX5_reckonAll_2 := dk_seg dksX5_reckonAll_1 24 rfl rfl
theorem dksX5_reckonAll_3 : cX5_reckonAll.data.toList.drop 72 = dktX5_reckonAll_3 := dk_seg dksX5_reckonAll_2 24 rfl rfl
theorem dksX5_reckonAll_4 : cX5_reckonAll.data.toList.drop 95 = dktX5_reckonAll_4 := dk_seg dksX5_reckonAll_3 23 rfl rfl
theorem dksX5_reckonAll_5 : cX5_reckonAll.data.toList.drop 119 = dktX5_reckonAll_5 := dk_seg dksX5_reckonAll_4 24 rfl rfl
theorem dksX5_reckonAll_6 : cX5_reckonAll.data.toList.drop 143 = dktX5_reckonAll_6 := dk_seg dksX5_reckonAll_5 24 rfl rfl
theorem dksX5_reckonAll_7 : cX5_reckonAll.data.toList.drop 167 = dktX5_reckonAll_7 := dk_seg dksX5_reckonAll_6 24 rfl rfl
theorem dksX5_reckonAll_8 : cX5_reckonAll.data.toList.drop 189 = dktX5_reckonAll_8 := dk_seg dksX5_reckonAll_7 22 rfl rfl
theorem dksX5_reckonAll_9 : cX5_reckonAll.data.toList.drop 213 = dktX5_reckonAll_9 := dk_seg dksX5_reckonAll_8 24 rfl rfl
theorem dksX5_reckonAll_10 : cX5_reckonAll.data.toList.drop 237 = dktX5_reckonAll_10 := dk_seg dksX5_reckonAll_9 24 rfl rfl
theorem dksX5_reckonAll_11 : cX5_reckonAll.data.toList.drop 259 = dktX5_reckonAll_11 := dk_seg dksX5_reckonAll_10 22 rfl rfl
theorem dksX5_reckonAll_12 : cX5_reckonAll.data.toList.drop 283 = dktX5_reckonAll_12 := dk_seg dksX5_reckonAll_11 24 rfl rfl
theorem dksX5_reckonAll_13 : cX5_reckonAll.data.toList.drop 307 = dktX5_reckonAll_13 := dk_seg dksX5_reckonAll_12 24 rfl rfl
theorem dksX5_reckonAll_14 : cX5_reckonAll.data.toList.drop 331 = dktX5_reckonAll_14 := dk_seg dksX5_reckonAll_13 24 rfl rfl
theorem dksX5_reckonAll_15 : cX5_reckonAll.data.toList.drop 355 = dktX5_reckonAll_15 := dk_seg dksX5_reckonAll_14 24 rfl rfl
theorem dksX5_reckonAll_16 : cX5_reckonAll.data.toList.drop 378 = dktX5_reckonAll_16 := dk_seg dksX5_reckonAll_15 23 rfl rfl
theorem dX5_reckonAll_0 : decode cX5_reckonAll 0 = .ok (.aload_n 0, 1) := dk_42 (dk_at dksX5_reckonAll_0 0 rfl rfl)
theorem dX5_reckonAll_1 : decode cX5_reckonAll 1 = .ok (.iconst 0, 1) := dk_3 (dk_at dksX5_reckonAll_0 1 rfl rfl)
theorem dX5_reckonAll_2 : decode cX5_reckonAll 2 = .ok (.putfield 367, 3) := dk_181 1 111 (dk_at dksX5_reckonAll_0 2 rfl rfl)
theorem dX5_reckonAll_5 : decode cX5_reckonAll 5 = .ok (.iconst 0, 1) := dk_3 (dk_at dksX5_reckonAll_0 5 rfl rfl)
theorem dX5_reckonAll_6 : decode cX5_reckonAll 6 = .ok (.istore_n 3, 1) := dk_62 (dk_at dksX5_reckonAll_0 6 rfl rfl)
theorem dX5_reckonAll_7 : decode cX5_reckonAll 7 = .ok (.iload_n 1, 1) := dk_27 (dk_at dksX5_reckonAll_0 7 rfl rfl)
theorem dX5_reckonAll_8 : decode cX5_reckonAll 8 = .ok (.istore 4, 2) := dk_54 4 (dk_at dksX5_reckonAll_0 8 rfl rfl)
theorem dX5_reckonAll_10 : decode cX5_reckonAll 10 = .ok (.iload 4, 2) := dk_21 4 (dk_at dksX5_reckonAll_0 10 rfl rfl)
theorem dX5_reckonAll_12 : decode cX5_reckonAll 12 = .ok (.iload_n 2, 1) := dk_28 (dk_at dksX5_reckonAll_0 12 rfl rfl)
theorem dX5_reckonAll_13 : decode cX5_reckonAll 13 = .ok (.if_icmp .ge 359, 3) := dk_162 1 103 (dk_at dksX5_reckonAll_0 13 rfl rfl)
theorem dX5_reckonAll_16 : decode cX5_reckonAll 16 = .ok (.aload_n 0, 1) := dk_42 (dk_at dksX5_reckonAll_0 16 rfl rfl)
theorem dX5_reckonAll_17 : decode cX5_reckonAll 17 = .ok (.getfield 367, 3) := dk_180 1 111 (dk_at dksX5_reckonAll_0 17 rfl rfl)
theorem dX5_reckonAll_20 : decode cX5_reckonAll 20 = .ok (.ifCond .ne 352, 3) := dk_154 1 96 (dk_at dksX5_reckonAll_0 20 rfl rfl)
theorem dX5_reckonAll_23 : decode cX5_reckonAll 23 = .ok (.aload_n 0, 1) := dk_42 (dk_at dksX5_reckonAll_0 23 rfl rfl)
theorem dX5_reckonAll_24 : decode cX5_reckonAll 24 = .ok (.getfield 300, 3) := dk_180 1 44 (dk_at dksX5_reckonAll_1 0 rfl rfl)
theorem dX5_reckonAll_27 : decode cX5_reckonAll 27 = .ok (.ifCond .eq 13, 3) := dk_153 0 13 (dk_at dksX5_reckonAll_1 3 rfl rfl)
theorem dX5_reckonAll_30 : decode cX5_reckonAll 30 = .ok (.aload_n 0, 1) := dk_42 (dk_at dksX5_reckonAll_1 6 rfl rfl)
theorem dX5_reckonAll_31 : decode cX5_reckonAll 31 = .ok (.getfield 45, 3) := dk_180 0 45 (dk_at dksX5_reckonAll_1 7 rfl rfl)
theorem dX5_reckonAll_34 : decode cX5_reckonAll 34 = .ok (.iload 4, 2) := dk_21 4 (dk_at dksX5_reckonAll_1 10 rfl rfl)
theorem dX5_reckonAll_36 : decode cX5_reckonAll 36 = .ok (.iaload, 1) := dk_46 (dk_at dksX5_reckonAll_1 12 rfl rfl)
theorem dX5_reckonAll_37 : decode cX5_reckonAll 37 = .ok (.goto 20, 3) := dk_167 0 20 (dk_at dksX5_reckonAll_1 13 rfl rfl)
theorem dX5_reckonAll_40 : decode cX5_reckonAll 40 = .ok (.aload_n 0, 1) := dk_42 (dk_at dksX5_reckonAll_1 16 rfl rfl)
theorem dX5_reckonAll_41 : decode cX5_reckonAll 41 = .ok (.getfield 13, 3) := dk_180 0 13 (dk_at dksX5_reckonAll_1 17 rfl rfl)
theorem dX5_reckonAll_44 : decode cX5_reckonAll 44 = .ok (.aload_n 0, 1) := dk_42 (dk_at dksX5_reckonAll_1 20 rfl rfl)
theorem dX5_reckonAll_45 : decode cX5_reckonAll 45 = .ok (.getfield 370, 3) := dk_180 1 114 (dk_at dksX5_reckonAll_1 21 rfl rfl)
theorem dX5_reckonAll_48 : decode cX5_reckonAll 48 = .ok (.bipush 98, 2) := dk_16 98 (dk_at dksX5_reckonAll_2 0 rfl rfl)
theorem dX5_reckonAll_50 : decode cX5_reckonAll 50 = .ok (.iadd, 1) := dk_96 (dk_at dksX5_reckonAll_2 2 rfl rfl)
theorem dX5_reckonAll_51 : decode cX5_reckonAll 51 = .ok (.iconst 2, 1) := dk_5 (dk_at dksX5_reckonAll_2 3 rfl rfl)
theorem dX5_reckonAll_52 : decode cX5_reckonAll 52 = .ok (.iload 4, 2) := dk_21 4 (dk_at dksX5_reckonAll_2 4 rfl rfl)
theorem dX5_reckonAll_54 : decode cX5_reckonAll 54 = .ok (.imul, 1) := dk_104 (dk_at dksX5_reckonAll_2 6 rfl rfl)
theorem dX5_reckonAll_55 : decode cX5_reckonAll 55 = .ok (.iadd, 1) := dk_96 (dk_at dksX5_reckonAll_2 7 rfl rfl)
theorem dX5_reckonAll_56 : decode cX5_reckonAll 56 = .ok (.iaload, 1) := dk_46 (dk_at dksX5_reckonAll_2 8 rfl rfl)
theorem dX5_reckonAll_57 : decode cX5_reckonAll 57 = .ok (.istore 5, 2) := dk_54 5 (dk_at dksX5_reckonAll_2 9 rfl rfl)
theorem dX5_reckonAll_59 : decode cX5_reckonAll 59 = .ok (.aload_n 0, 1) := dk_42 (dk_at dksX5_reckonAll_2 11 rfl rfl)
theorem dX5_reckonAll_60 : decode cX5_reckonAll 60 = .ok (.getfield 300, 3) := dk_180 1 44 (dk_at dksX5_reckonAll_2 12 rfl rfl)
theorem dX5_reckonAll_63 : decode cX5_reckonAll 63 = .ok (.ifCond .eq 13, 3) := dk_153 0 13 (dk_at dksX5_reckonAll_2 15 rfl rfl)
theorem dX5_reckonAll_66 : decode cX5_reckonAll 66 = .ok (.aload_n 0, 1) := dk_42 (dk_at dksX5_reckonAll_2 18 rfl rfl)
theorem dX5_reckonAll_67 : decode cX5_reckonAll 67 = .ok (.getfield 48, 3) := dk_180 0 48 (dk_at dksX5_reckonAll_2 19 rfl rfl)
theorem dX5_reckonAll_70 : decode cX5_reckonAll 70 = .ok (.iload 4, 2) := dk_21 4 (dk_at dksX5_reckonAll_2 22 rfl rfl)
theorem dX5_reckonAll_72 : decode cX5_reckonAll 72 = .ok (.iaload, 1) := dk_46 (dk_at dksX5_reckonAll_3 0 rfl rfl)
theorem dX5_reckonAll_73 : decode cX5_reckonAll 73 = .ok (.goto 22, 3) := dk_167 0 22 (dk_at dksX5_reckonAll_3 1 rfl rfl)
theorem dX5_reckonAll_76 : decode cX5_reckonAll 76 = .ok (.aload_n 0, 1) := dk_42 (dk_at dksX5_reckonAll_3 4 rfl rfl)
theorem dX5_reckonAll_77 : decode cX5_reckonAll 77 = .ok (.getfield 13, 3) := dk_180 0 13 (dk_at dksX5_reckonAll_3 5 rfl rfl)
theorem dX5_reckonAll_80 : decode cX5_reckonAll 80 = .ok (.aload_n 0, 1) := dk_42 (dk_at dksX5_reckonAll_3 8 rfl rfl)
theorem dX5_reckonAll_81 : decode cX5_reckonAll 81 = .ok (.getfield 370, 3) := dk_180 1 114 (dk_at dksX5_reckonAll_3 9 rfl rfl)
theorem dX5_reckonAll_84 : decode cX5_reckonAll 84 = .ok (.bipush 98, 2) := dk_16 98 (dk_at dksX5_reckonAll_3 12 rfl rfl)
theorem dX5_reckonAll_86 : decode cX5_reckonAll 86 = .ok (.iadd, 1) := dk_96 (dk_at dksX5_reckonAll_3 14 rfl rfl)
theorem dX5_reckonAll_87 : decode cX5_reckonAll 87 = .ok (.iconst 2, 1) := dk_5 (dk_at dksX5_reckonAll_3 15 rfl rfl)
theorem dX5_reckonAll_88 : decode cX5_reckonAll 88 = .ok (.iload 4, 2) := dk_21 4 (dk_at dksX5_reckonAll_3 16 rfl rfl)
theorem dX5_reckonAll_90 : decode cX5_reckonAll 90 = .ok (.imul, 1) := dk_104 (dk_at dksX5_reckonAll_3 18 rfl rfl)
theorem dX5_reckonAll_91 : decode cX5_reckonAll 91 = .ok (.iadd, 1) := dk_96 (dk_at dksX5_reckonAll_3 19 rfl rfl)
theorem dX5_reckonAll_92 : decode cX5_reckonAll 92 = .ok (.iconst 1, 1) := dk_4 (dk_at dksX5_reckonAll_3 20 rfl rfl)
theorem dX5_reckonAll_93 : decode cX5_reckonAll 93 = .ok (.iadd, 1) := dk_96 (dk_at dksX5_reckonAll_3 21 rfl rfl)
theorem dX5_reckonAll_94 : decode cX5_reckonAll 94 = .ok (.iaload, 1) := dk_46 (dk_at dksX5_reckonAll_3 22 rfl rfl)
theorem dX5_reckonAll_95 : decode cX5_reckonAll 95 = .ok (.istore 6, 2) := dk_54 6 (dk_at dksX5_reckonAll_4 0 rfl rfl)
theorem dX5_reckonAll_97 : decode cX5_reckonAll 97 = .ok (.iinc 4 1, 3) := dk_132 4 1 (dk_at dksX5_reckonAll_4 2 rfl rfl)
theorem dX5_reckonAll_100 : decode cX5_reckonAll 100 = .ok (.iload 5, 2) := dk_21 5 (dk_at dksX5_reckonAll_4 5 rfl rfl)
theorem dX5_reckonAll_102 : decode cX5_reckonAll 102 = .ok (.bipush 20, 2) := dk_16 20 (dk_at dksX5_reckonAll_4 7 rfl rfl)
theorem dX5_reckonAll_104 : decode cX5_reckonAll 104 = .ok (.if_icmp .ge 126, 3) := dk_162 0 126 (dk_at dksX5_reckonAll_4 9 rfl rfl)
theorem dX5_reckonAll_107 : decode cX5_reckonAll 107 = .ok (.aload_n 0, 1) := dk_42 (dk_at dksX5_reckonAll_4 12 rfl rfl)
theorem dX5_reckonAll_108 : decode cX5_reckonAll 108 = .ok (.getfield 107, 3) := dk_180 0 107 (dk_at dksX5_reckonAll_4 13 rfl rfl)
theorem dX5_reckonAll_111 : decode cX5_reckonAll 111 = .ok (.iload_n 3, 1) := dk_29 (dk_at dksX5_reckonAll_4 16 rfl rfl)
theorem dX5_reckonAll_112 : decode cX5_reckonAll 112 = .ok (.iload 5, 2) := dk_21 5 (dk_at dksX5_reckonAll_4 17 rfl rfl)
theorem dX5_reckonAll_114 : decode cX5_reckonAll 114 = .ok (.ifCond .ne 9, 3) := dk_154 0 9 (dk_at dksX5_reckonAll_4 19 rfl rfl)
theorem dX5_reckonAll_117 : decode cX5_reckonAll 117 = .ok (.iload 6, 2) := dk_21 6 (dk_at dksX5_reckonAll_4 22 rfl rfl)
theorem dX5_reckonAll_119 : decode cX5_reckonAll 119 = .ok (.i2l, 1) := dk_133 (dk_at dksX5_reckonAll_5 0 rfl rfl)
theorem dX5_reckonAll_120 : decode cX5_reckonAll 120 = .ok (.goto 103, 3) := dk_167 0 103 (dk_at dksX5_reckonAll_5 1 rfl rfl)
theorem dX5_reckonAll_123 : decode cX5_reckonAll 123 = .ok (.aload_n 0, 1) := dk_42 (dk_at dksX5_reckonAll_5 4 rfl rfl)
theorem dX5_reckonAll_124 : decode cX5_reckonAll 124 = .ok (.getfield 300, 3) := dk_180 1 44 (dk_at dksX5_reckonAll_5 5 rfl rfl)
theorem dX5_reckonAll_127 : decode cX5_reckonAll 127 = .ok (.ifCond .ne 13, 3) := dk_154 0 13 (dk_at dksX5_reckonAll_5 8 rfl rfl)
theorem dX5_reckonAll_130 : decode cX5_reckonAll 130 = .ok (.aload_n 0, 1) := dk_42 (dk_at dksX5_reckonAll_5 11 rfl rfl)
theorem dX5_reckonAll_131 : decode cX5_reckonAll 131 = .ok (.getfield 101, 3) := dk_180 0 101 (dk_at dksX5_reckonAll_5 12 rfl rfl)
theorem dX5_reckonAll_134 : decode cX5_reckonAll 134 = .ok (.iload 5, 2) := dk_21 5 (dk_at dksX5_reckonAll_5 15 rfl rfl)
theorem dX5_reckonAll_136 : decode cX5_reckonAll 136 = .ok (.laload, 1) := dk_47 (dk_at dksX5_reckonAll_5 17 rfl rfl)
theorem dX5_reckonAll_137 : decode cX5_reckonAll 137 = .ok (.goto 86, 3) := dk_167 0 86 (dk_at dksX5_reckonAll_5 18 rfl rfl)
theorem dX5_reckonAll_140 : decode cX5_reckonAll 140 = .ok (.iload 5, 2) := dk_21 5 (dk_at dksX5_reckonAll_5 21 rfl rfl)
theorem dX5_reckonAll_142 : decode cX5_reckonAll 142 = .ok (.iconst 4, 1) := dk_7 (dk_at dksX5_reckonAll_5 23 rfl rfl)
theorem dX5_reckonAll_143 : decode cX5_reckonAll 143 = .ok (.if_icmp .ge 13, 3) := dk_162 0 13 (dk_at dksX5_reckonAll_6 0 rfl rfl)
theorem dX5_reckonAll_146 : decode cX5_reckonAll 146 = .ok (.aload_n 0, 1) := dk_42 (dk_at dksX5_reckonAll_6 3 rfl rfl)
theorem dX5_reckonAll_147 : decode cX5_reckonAll 147 = .ok (.getfield 104, 3) := dk_180 0 104 (dk_at dksX5_reckonAll_6 4 rfl rfl)
theorem dX5_reckonAll_150 : decode cX5_reckonAll 150 = .ok (.iload 5, 2) := dk_21 5 (dk_at dksX5_reckonAll_6 7 rfl rfl)
theorem dX5_reckonAll_152 : decode cX5_reckonAll 152 = .ok (.laload, 1) := dk_47 (dk_at dksX5_reckonAll_6 9 rfl rfl)
theorem dX5_reckonAll_153 : decode cX5_reckonAll 153 = .ok (.goto 70, 3) := dk_167 0 70 (dk_at dksX5_reckonAll_6 10 rfl rfl)
theorem dX5_reckonAll_156 : decode cX5_reckonAll 156 = .ok (.iload 5, 2) := dk_21 5 (dk_at dksX5_reckonAll_6 13 rfl rfl)
theorem dX5_reckonAll_158 : decode cX5_reckonAll 158 = .ok (.bipush 6, 2) := dk_16 6 (dk_at dksX5_reckonAll_6 15 rfl rfl)
theorem dX5_reckonAll_160 : decode cX5_reckonAll 160 = .ok (.if_icmp .ne 17, 3) := dk_160 0 17 (dk_at dksX5_reckonAll_6 17 rfl rfl)
theorem dX5_reckonAll_163 : decode cX5_reckonAll 163 = .ok (.aload_n 0, 1) := dk_42 (dk_at dksX5_reckonAll_6 20 rfl rfl)
theorem dX5_reckonAll_164 : decode cX5_reckonAll 164 = .ok (.getfield 13, 3) := dk_180 0 13 (dk_at dksX5_reckonAll_6 21 rfl rfl)
theorem dX5_reckonAll_167 : decode cX5_reckonAll 167 = .ok (.bipush 9, 2) := dk_16 9 (dk_at dksX5_reckonAll_7 0 rfl rfl)
theorem dX5_reckonAll_169 : decode cX5_reckonAll 169 = .ok (.iload 6, 2) := dk_21 6 (dk_at dksX5_reckonAll_7 2 rfl rfl)
theorem dX5_reckonAll_171 : decode cX5_reckonAll 171 = .ok (.iadd, 1) := dk_96 (dk_at dksX5_reckonAll_7 4 rfl rfl)
theorem dX5_reckonAll_172 : decode cX5_reckonAll 172 = .ok (.iaload, 1) := dk_46 (dk_at dksX5_reckonAll_7 5 rfl rfl)
theorem dX5_reckonAll_173 : decode cX5_reckonAll 173 = .ok (.i2l, 1) := dk_133 (dk_at dksX5_reckonAll_7 6 rfl rfl)
theorem dX5_reckonAll_174 : decode cX5_reckonAll 174 = .ok (.goto 49, 3) := dk_167 0 49 (dk_at dksX5_reckonAll_7 7 rfl rfl)
theorem dX5_reckonAll_177 : decode cX5_reckonAll 177 = .ok (.aload_n 0, 1) := dk_42 (dk_at dksX5_reckonAll_7 10 rfl rfl)
theorem dX5_reckonAll_178 : decode cX5_reckonAll 178 = .ok (.iload 6, 2) := dk_21 6 (dk_at dksX5_reckonAll_7 11 rfl rfl)
theorem dX5_reckonAll_180 : decode cX5_reckonAll 180 = .ok (.invokevirtual 195, 3) := dk_182 0 195 (dk_at dksX5_reckonAll_7 13 rfl rfl)
theorem dX5_reckonAll_183 : decode cX5_reckonAll 183 = .ok (.ifCond .ne 9, 3) := dk_154 0 9 (dk_at dksX5_reckonAll_7 16 rfl rfl)
theorem dX5_reckonAll_186 : decode cX5_reckonAll 186 = .ok (.ldc2_w 252, 3) := dk_20 0 252 (dk_at dksX5_reckonAll_7 19 rfl rfl)
theorem dX5_reckonAll_189 : decode cX5_reckonAll 189 = .ok (.goto 34, 3) := dk_167 0 34 (dk_at dksX5_reckonAll_8 0 rfl rfl)
theorem dX5_reckonAll_192 : decode cX5_reckonAll 192 = .ok (.iload 5, 2) := dk_21 5 (dk_at dksX5_reckonAll_8 3 rfl rfl)
theorem dX5_reckonAll_194 : decode cX5_reckonAll 194 = .ok (.iconst 4, 1) := dk_7 (dk_at dksX5_reckonAll_8 5 rfl rfl)
theorem dX5_reckonAll_195 : decode cX5_reckonAll 195 = .ok (.if_icmp .ne 17, 3) := dk_160 0 17 (dk_at dksX5_reckonAll_8 6 rfl rfl)
theorem dX5_reckonAll_198 : decode cX5_reckonAll 198 = .ok (.aload_n 0, 1) := dk_42 (dk_at dksX5_reckonAll_8 9 rfl rfl)
theorem dX5_reckonAll_199 : decode cX5_reckonAll 199 = .ok (.getfield 13, 3) := dk_180 0 13 (dk_at dksX5_reckonAll_8 10 rfl rfl)
theorem dX5_reckonAll_202 : decode cX5_reckonAll 202 = .ok (.bipush 13, 2) := dk_16 13 (dk_at dksX5_reckonAll_8 13 rfl rfl)
theorem dX5_reckonAll_204 : decode cX5_reckonAll 204 = .ok (.iload 6, 2) := dk_21 6 (dk_at dksX5_reckonAll_8 15 rfl rfl)
theorem dX5_reckonAll_206 : decode cX5_reckonAll 206 = .ok (.iadd, 1) := dk_96 (dk_at dksX5_reckonAll_8 17 rfl rfl)
theorem dX5_reckonAll_207 : decode cX5_reckonAll 207 = .ok (.iaload, 1) := dk_46 (dk_at dksX5_reckonAll_8 18 rfl rfl)
theorem dX5_reckonAll_208 : decode cX5_reckonAll 208 = .ok (.i2l, 1) := dk_133 (dk_at dksX5_reckonAll_8 19 rfl rfl)
theorem dX5_reckonAll_209 : decode cX5_reckonAll 209 = .ok (.goto 14, 3) := dk_167 0 14 (dk_at dksX5_reckonAll_8 20 rfl rfl)
theorem dX5_reckonAll_212 : decode cX5_reckonAll 212 = .ok (.aload_n 0, 1) := dk_42 (dk_at dksX5_reckonAll_8 23 rfl rfl)
theorem dX5_reckonAll_213 : decode cX5_reckonAll 213 = .ok (.getfield 13, 3) := dk_180 0 13 (dk_at dksX5_reckonAll_9 0 rfl rfl)
theorem dX5_reckonAll_216 : decode cX5_reckonAll 216 = .ok (.bipush 19, 2) := dk_16 19 (dk_at dksX5_reckonAll_9 3 rfl rfl)
theorem dX5_reckonAll_218 : decode cX5_reckonAll 218 = .ok (.iload 6, 2) := dk_21 6 (dk_at dksX5_reckonAll_9 5 rfl rfl)
theorem dX5_reckonAll_220 : decode cX5_reckonAll 220 = .ok (.iadd, 1) := dk_96 (dk_at dksX5_reckonAll_9 7 rfl rfl)
theorem dX5_reckonAll_221 : decode cX5_reckonAll 221 = .ok (.iaload, 1) := dk_46 (dk_at dksX5_reckonAll_9 8 rfl rfl)
theorem dX5_reckonAll_222 : decode cX5_reckonAll 222 = .ok (.i2l, 1) := dk_133 (dk_at dksX5_reckonAll_9 9 rfl rfl)
theorem dX5_reckonAll_223 : decode cX5_reckonAll 223 = .ok (.lastore, 1) := dk_80 (dk_at dksX5_reckonAll_9 10 rfl rfl)
theorem dX5_reckonAll_224 : decode cX5_reckonAll 224 = .ok (.iinc 3 1, 3) := dk_132 3 1 (dk_at dksX5_reckonAll_9 11 rfl rfl)
theorem dX5_reckonAll_227 : decode cX5_reckonAll 227 = .ok (.goto 142, 3) := dk_167 0 142 (dk_at dksX5_reckonAll_9 14 rfl rfl)
theorem dX5_reckonAll_230 : decode cX5_reckonAll 230 = .ok (.iload 5, 2) := dk_21 5 (dk_at dksX5_reckonAll_9 17 rfl rfl)
theorem dX5_reckonAll_232 : decode cX5_reckonAll 232 = .ok (.bipush 28, 2) := dk_16 28 (dk_at dksX5_reckonAll_9 19 rfl rfl)
theorem dX5_reckonAll_234 : decode cX5_reckonAll 234 = .ok (.if_icmp .ge 73, 3) := dk_162 0 73 (dk_at dksX5_reckonAll_9 21 rfl rfl)
theorem dX5_reckonAll_237 : decode cX5_reckonAll 237 = .ok (.iinc 3 (-1), 3) := dk_132 3 255 (dk_at dksX5_reckonAll_10 0 rfl rfl)
theorem dX5_reckonAll_240 : decode cX5_reckonAll 240 = .ok (.aload_n 0, 1) := dk_42 (dk_at dksX5_reckonAll_10 3 rfl rfl)
theorem dX5_reckonAll_241 : decode cX5_reckonAll 241 = .ok (.getfield 107, 3) := dk_180 0 107 (dk_at dksX5_reckonAll_10 4 rfl rfl)
theorem dX5_reckonAll_244 : decode cX5_reckonAll 244 = .ok (.iload_n 3, 1) := dk_29 (dk_at dksX5_reckonAll_10 7 rfl rfl)
theorem dX5_reckonAll_245 : decode cX5_reckonAll 245 = .ok (.iconst 1, 1) := dk_4 (dk_at dksX5_reckonAll_10 8 rfl rfl)
theorem dX5_reckonAll_246 : decode cX5_reckonAll 246 = .ok (.isub, 1) := dk_100 (dk_at dksX5_reckonAll_10 9 rfl rfl)
theorem dX5_reckonAll_247 : decode cX5_reckonAll 247 = .ok (.aload_n 0, 1) := dk_42 (dk_at dksX5_reckonAll_10 10 rfl rfl)
theorem dX5_reckonAll_248 : decode cX5_reckonAll 248 = .ok (.iload 5, 2) := dk_21 5 (dk_at dksX5_reckonAll_10 11 rfl rfl)
theorem dX5_reckonAll_250 : decode cX5_reckonAll 250 = .ok (.aload_n 0, 1) := dk_42 (dk_at dksX5_reckonAll_10 13 rfl rfl)
theorem dX5_reckonAll_251 : decode cX5_reckonAll 251 = .ok (.getfield 107, 3) := dk_180 0 107 (dk_at dksX5_reckonAll_10 14 rfl rfl)
theorem dX5_reckonAll_254 : decode cX5_reckonAll 254 = .ok (.iload_n 3, 1) := dk_29 (dk_at dksX5_reckonAll_10 17 rfl rfl)
theorem dX5_reckonAll_255 : decode cX5_reckonAll 255 = .ok (.iconst 1, 1) := dk_4 (dk_at dksX5_reckonAll_10 18 rfl rfl)
theorem dX5_reckonAll_256 : decode cX5_reckonAll 256 = .ok (.isub, 1) := dk_100 (dk_at dksX5_reckonAll_10 19 rfl rfl)
theorem dX5_reckonAll_257 : decode cX5_reckonAll 257 = .ok (.laload, 1) := dk_47 (dk_at dksX5_reckonAll_10 20 rfl rfl)
theorem dX5_reckonAll_258 : decode cX5_reckonAll 258 = .ok (.aload_n 0, 1) := dk_42 (dk_at dksX5_reckonAll_10 21 rfl rfl)
theorem dX5_reckonAll_259 : decode cX5_reckonAll 259 = .ok (.getfield 107, 3) := dk_180 0 107 (dk_at dksX5_reckonAll_11 0 rfl rfl)
theorem dX5_reckonAll_262 : decode cX5_reckonAll 262 = .ok (.iload_n 3, 1) := dk_29 (dk_at dksX5_reckonAll_11 3 rfl rfl)
theorem dX5_reckonAll_263 : decode cX5_reckonAll 263 = .ok (.laload, 1) := dk_47 (dk_at dksX5_reckonAll_11 4 rfl rfl)
theorem dX5_reckonAll_264 : decode cX5_reckonAll 264 = .ok (.invokevirtual 373, 3) := dk_182 1 117 (dk_at dksX5_reckonAll_11 5 rfl rfl)
theorem dX5_reckonAll_267 : decode cX5_reckonAll 267 = .ok (.lastore, 1) := dk_80 (dk_at dksX5_reckonAll_11 8 rfl rfl)
theorem dX5_reckonAll_268 : decode cX5_reckonAll 268 = .ok (.aload_n 0, 1) := dk_42 (dk_at dksX5_reckonAll_11 9 rfl rfl)
theorem dX5_reckonAll_269 : decode cX5_reckonAll 269 = .ok (.aload_n 0, 1) := dk_42 (dk_at dksX5_reckonAll_11 10 rfl rfl)
theorem dX5_reckonAll_270 : decode cX5_reckonAll 270 = .ok (.getfield 367, 3) := dk_180 1 111 (dk_at dksX5_reckonAll_11 11 rfl rfl)
theorem dX5_reckonAll_273 : decode cX5_reckonAll 273 = .ok (.ifCond .ne 23, 3) := dk_154 0 23 (dk_at dksX5_reckonAll_11 14 rfl rfl)
theorem dX5_reckonAll_276 : decode cX5_reckonAll 276 = .ok (.aload_n 0, 1) := dk_42 (dk_at dksX5_reckonAll_11 17 rfl rfl)
theorem dX5_reckonAll_277 : decode cX5_reckonAll 277 = .ok (.getfield 107, 3) := dk_180 0 107 (dk_at dksX5_reckonAll_11 18 rfl rfl)
theorem dX5_reckonAll_280 : decode cX5_reckonAll 280 = .ok (.iload_n 3, 1) := dk_29 (dk_at dksX5_reckonAll_11 21 rfl rfl)
theorem dX5_reckonAll_281 : decode cX5_reckonAll 281 = .ok (.iconst 1, 1) := dk_4 (dk_at dksX5_reckonAll_11 22 rfl rfl)
theorem dX5_reckonAll_282 : decode cX5_reckonAll 282 = .ok (.isub, 1) := dk_100 (dk_at dksX5_reckonAll_11 23 rfl rfl)
theorem dX5_reckonAll_283 : decode cX5_reckonAll 283 = .ok (.laload, 1) := dk_47 (dk_at dksX5_reckonAll_12 0 rfl rfl)
theorem dX5_reckonAll_284 : decode cX5_reckonAll 284 = .ok (.ldc2_w 377, 3) := dk_20 1 121 (dk_at dksX5_reckonAll_12 1 rfl rfl)
theorem dX5_reckonAll_287 : decode cX5_reckonAll 287 = .ok (.ldc2_w 379, 3) := dk_20 1 123 (dk_at dksX5_reckonAll_12 4 rfl rfl)
theorem dX5_reckonAll_290 : decode cX5_reckonAll 290 = .ok (.invokestatic 162, 3) := dk_184 0 162 (dk_at dksX5_reckonAll_12 7 rfl rfl)
theorem dX5_reckonAll_293 : decode cX5_reckonAll 293 = .ok (.ifCond .ne 7, 3) := dk_154 0 7 (dk_at dksX5_reckonAll_12 10 rfl rfl)
theorem dX5_reckonAll_296 : decode cX5_reckonAll 296 = .ok (.iconst 1, 1) := dk_4 (dk_at dksX5_reckonAll_12 13 rfl rfl)
theorem dX5_reckonAll_297 : decode cX5_reckonAll 297 = .ok (.goto 4, 3) := dk_167 0 4 (dk_at dksX5_reckonAll_12 14 rfl rfl)
theorem dX5_reckonAll_300 : decode cX5_reckonAll 300 = .ok (.iconst 0, 1) := dk_3 (dk_at dksX5_reckonAll_12 17 rfl rfl)
theorem dX5_reckonAll_301 : decode cX5_reckonAll 301 = .ok (.putfield 367, 3) := dk_181 1 111 (dk_at dksX5_reckonAll_12 18 rfl rfl)
theorem dX5_reckonAll_304 : decode cX5_reckonAll 304 = .ok (.goto 65, 3) := dk_167 0 65 (dk_at dksX5_reckonAll_12 21 rfl rfl)
theorem dX5_reckonAll_307 : decode cX5_reckonAll 307 = .ok (.iload 5, 2) := dk_21 5 (dk_at dksX5_reckonAll_13 0 rfl rfl)
theorem dX5_reckonAll_309 : decode cX5_reckonAll 309 = .ok (.bipush 28, 2) := dk_16 28 (dk_at dksX5_reckonAll_13 2 rfl rfl)
theorem dX5_reckonAll_311 : decode cX5_reckonAll 311 = .ok (.if_icmp .ne 24, 3) := dk_160 0 24 (dk_at dksX5_reckonAll_13 4 rfl rfl)
theorem dX5_reckonAll_314 : decode cX5_reckonAll 314 = .ok (.aload_n 0, 1) := dk_42 (dk_at dksX5_reckonAll_13 7 rfl rfl)
theorem dX5_reckonAll_315 : decode cX5_reckonAll 315 = .ok (.getfield 107, 3) := dk_180 0 107 (dk_at dksX5_reckonAll_13 8 rfl rfl)
theorem dX5_reckonAll_318 : decode cX5_reckonAll 318 = .ok (.iload_n 3, 1) := dk_29 (dk_at dksX5_reckonAll_13 11 rfl rfl)
theorem dX5_reckonAll_319 : decode cX5_reckonAll 319 = .ok (.iconst 1, 1) := dk_4 (dk_at dksX5_reckonAll_13 12 rfl rfl)
theorem dX5_reckonAll_320 : decode cX5_reckonAll 320 = .ok (.isub, 1) := dk_100 (dk_at dksX5_reckonAll_13 13 rfl rfl)
theorem dX5_reckonAll_321 : decode cX5_reckonAll 321 = .ok (.lconst 1, 1) := dk_10 (dk_at dksX5_reckonAll_13 14 rfl rfl)
theorem dX5_reckonAll_322 : decode cX5_reckonAll 322 = .ok (.aload_n 0, 1) := dk_42 (dk_at dksX5_reckonAll_13 15 rfl rfl)
theorem dX5_reckonAll_323 : decode cX5_reckonAll 323 = .ok (.getfield 107, 3) := dk_180 0 107 (dk_at dksX5_reckonAll_13 16 rfl rfl)
theorem dX5_reckonAll_326 : decode cX5_reckonAll 326 = .ok (.iload_n 3, 1) := dk_29 (dk_at dksX5_reckonAll_13 19 rfl rfl)
theorem dX5_reckonAll_327 : decode cX5_reckonAll 327 = .ok (.iconst 1, 1) := dk_4 (dk_at dksX5_reckonAll_13 20 rfl rfl)
theorem dX5_reckonAll_328 : decode cX5_reckonAll 328 = .ok (.isub, 1) := dk_100 (dk_at dksX5_reckonAll_13 21 rfl rfl)
theorem dX5_reckonAll_329 : decode cX5_reckonAll 329 = .ok (.laload, 1) := dk_47 (dk_at dksX5_reckonAll_13 22 rfl rfl)
theorem dX5_reckonAll_330 : decode cX5_reckonAll 330 = .ok (.lsub, 1) := dk_101 (dk_at dksX5_reckonAll_13 23 rfl rfl)
theorem dX5_reckonAll_331 : decode cX5_reckonAll 331 = .ok (.lastore, 1) := dk_80 (dk_at dksX5_reckonAll_14 0 rfl rfl)
theorem dX5_reckonAll_332 : decode cX5_reckonAll 332 = .ok (.goto 37, 3) := dk_167 0 37 (dk_at dksX5_reckonAll_14 1 rfl rfl)
theorem dX5_reckonAll_335 : decode cX5_reckonAll 335 = .ok (.aload_n 0, 1) := dk_42 (dk_at dksX5_reckonAll_14 4 rfl rfl)
theorem dX5_reckonAll_336 : decode cX5_reckonAll 336 = .ok (.getfield 107, 3) := dk_180 0 107 (dk_at dksX5_reckonAll_14 5 rfl rfl)
theorem dX5_reckonAll_339 : decode cX5_reckonAll 339 = .ok (.iload_n 3, 1) := dk_29 (dk_at dksX5_reckonAll_14 8 rfl rfl)
theorem dX5_reckonAll_340 : decode cX5_reckonAll 340 = .ok (.iconst 1, 1) := dk_4 (dk_at dksX5_reckonAll_14 9 rfl rfl)
theorem dX5_reckonAll_341 : decode cX5_reckonAll 341 = .ok (.isub, 1) := dk_100 (dk_at dksX5_reckonAll_14 10 rfl rfl)
theorem dX5_reckonAll_342 : decode cX5_reckonAll 342 = .ok (.laload, 1) := dk_47 (dk_at dksX5_reckonAll_14 11 rfl rfl)
theorem dX5_reckonAll_343 : decode cX5_reckonAll 343 = .ok (.iload 5, 2) := dk_21 5 (dk_at dksX5_reckonAll_14 12 rfl rfl)
theorem dX5_reckonAll_345 : decode cX5_reckonAll 345 = .ok (.bipush 29, 2) := dk_16 29 (dk_at dksX5_reckonAll_14 14 rfl rfl)
theorem dX5_reckonAll_347 : decode cX5_reckonAll 347 = .ok (.if_icmp .ne 7, 3) := dk_160 0 7 (dk_at dksX5_reckonAll_14 16 rfl rfl)
theorem dX5_reckonAll_350 : decode cX5_reckonAll 350 = .ok (.lconst 0, 1) := dk_9 (dk_at dksX5_reckonAll_14 19 rfl rfl)
theorem dX5_reckonAll_351 : decode cX5_reckonAll 351 = .ok (.goto 4, 3) := dk_167 0 4 (dk_at dksX5_reckonAll_14 20 rfl rfl)
theorem dX5_reckonAll_354 : decode cX5_reckonAll 354 = .ok (.lconst 1, 1) := dk_10 (dk_at dksX5_reckonAll_14 23 rfl rfl)
theorem dX5_reckonAll_355 : decode cX5_reckonAll 355 = .ok (.lcmp, 1) := dk_148 (dk_at dksX5_reckonAll_15 0 rfl rfl)
theorem dX5_reckonAll_356 : decode cX5_reckonAll 356 = .ok (.ifCond .ne 10, 3) := dk_154 0 10 (dk_at dksX5_reckonAll_15 1 rfl rfl)
theorem dX5_reckonAll_359 : decode cX5_reckonAll 359 = .ok (.iload 6, 2) := dk_21 6 (dk_at dksX5_reckonAll_15 4 rfl rfl)
theorem dX5_reckonAll_361 : decode cX5_reckonAll 361 = .ok (.istore 4, 2) := dk_54 4 (dk_at dksX5_reckonAll_15 6 rfl rfl)
theorem dX5_reckonAll_363 : decode cX5_reckonAll 363 = .ok (.goto 6, 3) := dk_167 0 6 (dk_at dksX5_reckonAll_15 8 rfl rfl)
theorem dX5_reckonAll_366 : decode cX5_reckonAll 366 = .ok (.iinc 3 (-1), 3) := dk_132 3 255 (dk_at dksX5_reckonAll_15 11 rfl rfl)
theorem dX5_reckonAll_369 : decode cX5_reckonAll 369 = .ok (.goto (-359), 3) := dk_167 254 153 (dk_at dksX5_reckonAll_15 14 rfl rfl)
theorem dX5_reckonAll_372 : decode cX5_reckonAll 372 = .ok (.aload_n 0, 1) := dk_42 (dk_at dksX5_reckonAll_15 17 rfl rfl)
theorem dX5_reckonAll_373 : decode cX5_reckonAll 373 = .ok (.iload_n 3, 1) := dk_29 (dk_at dksX5_reckonAll_15 18 rfl rfl)
theorem dX5_reckonAll_374 : decode cX5_reckonAll 374 = .ok (.ifCond .le 12, 3) := dk_158 0 12 (dk_at dksX5_reckonAll_15 19 rfl rfl)
theorem dX5_reckonAll_377 : decode cX5_reckonAll 377 = .ok (.aload_n 0, 1) := dk_42 (dk_at dksX5_reckonAll_15 22 rfl rfl)
theorem dX5_reckonAll_378 : decode cX5_reckonAll 378 = .ok (.getfield 107, 3) := dk_180 0 107 (dk_at dksX5_reckonAll_16 0 rfl rfl)
theorem dX5_reckonAll_381 : decode cX5_reckonAll 381 = .ok (.iconst 0, 1) := dk_3 (dk_at dksX5_reckonAll_16 3 rfl rfl)
theorem dX5_reckonAll_382 : decode cX5_reckonAll 382 = .ok (.laload, 1) := dk_47 (dk_at dksX5_reckonAll_16 4 rfl rfl)
theorem dX5_reckonAll_383 : decode cX5_reckonAll 383 = .ok (.goto 4, 3) := dk_167 0 4 (dk_at dksX5_reckonAll_16 5 rfl rfl)
theorem dX5_reckonAll_386 : decode cX5_reckonAll 386 = .ok (.lconst 0, 1) := dk_9 (dk_at dksX5_reckonAll_16 8 rfl rfl)
theorem dX5_reckonAll_387 : decode cX5_reckonAll 387 = .ok (.putfield 381, 3) := dk_181 1 125 (dk_at dksX5_reckonAll_16 9 rfl rfl)
theorem dX5_reckonAll_390 : decode cX5_reckonAll 390 = .ok (.return_, 1) := dk_177 (dk_at dksX5_reckonAll_16 12 rfl rfl)
abbrev cX5_reckon : ByteArray := prog_22_method_61_code
def yX5_reckon : MethodName := ⟨RX5, "reckon", "(IJJ)J"⟩
def dkwX5_reckon_6 : List UInt8 := [148, 158, 0, 7, 10, 167, 0, 4, 9, 173, 32, 22, 4, 148, 154, 0, 7, 10, 167, 0, 4, 9, 173]
abbrev dktX5_reckon_6 : List UInt8 := dkwX5_reckon_6 ++ []
def dkwX5_reckon_5 : List UInt8 := [167, 0, 7, 32, 22, 4, 113, 173, 32, 22, 4, 148, 156, 0, 7, 10, 167, 0, 4, 9, 173, 32, 22, 4]
abbrev dktX5_reckon_5 : List UInt8 := dkwX5_reckon_5 ++ dktX5_reckon_6
def dkwX5_reckon_4 : List UInt8 := [22, 4, 9, 148, 154, 0, 7, 4, 167, 0, 4, 3, 181, 1, 111, 42, 180, 1, 111, 153, 0, 7, 9]
abbrev dktX5_reckon_4 : List UInt8 := dkwX5_reckon_4 ++ dktX5_reckon_5
def dkwX5_reckon_3 : List UInt8 := [167, 0, 4, 3, 181, 1, 111, 42, 180, 1, 111, 153, 0, 7, 9, 167, 0, 7, 32, 22, 4, 109, 173, 42]
abbrev dktX5_reckon_3 : List UInt8 := dkwX5_reckon_3 ++ dktX5_reckon_4
def dkwX5_reckon_2 : List UInt8 := [32, 22, 4, 97, 173, 32, 22, 4, 101, 173, 32, 22, 4, 105, 173, 42, 22, 4, 9, 148, 154, 0, 7, 4]
abbrev dktX5_reckon_2 : List UInt8 := dkwX5_reckon_2 ++ dktX5_reckon_3
def dkwX5_reckon_1 : List UInt8 := [170, 0, 0, 0, 0, 0, 148, 0, 0, 0, 20, 0, 0, 0, 26, 0, 0, 0, 43, 0, 0, 0, 48, 0, 0, 0, 53, 0, 0, 0, 58, 0, 0, 0, 90, 0, 0, 0, 122, 0, 0, 0, 135]
abbrev dktX5_reckon_1 : List UInt8 := dkwX5_reckon_1 ++ dktX5_reckon_2
def dkwX5_reckon_0 : List UInt8 := [27]
abbrev dktX5_reckon_0 : List UInt8 := dkwX5_reckon_0 ++ dktX5_reckon_1
theorem dksX5_reckon_0 : cX5_reckon.data.toList.drop 0 = dktX5_reckon_0 := by decide +kernel
theorem dksX5_reckon_1 : cX5_reckon.data.toList.drop 1 = dktX5_reckon_1 := dk_seg dksX5_reckon_0 1 rfl rfl
theorem dksX5_reckon_2 : cX5_reckon.data.toList.drop 44 = dktX5_reckon_2 := dk_seg dksX5_reckon_1 43 rfl rfl
theorem dksX5_reckon_3 : cX5_reckon.data.toList.drop 68 = dktX5_reckon_3 := dk_seg dksX5_reckon_2 24 rfl rfl
theorem dksX5_reckon_4 : cX5_reckon.data.toList.drop 92 = dktX5_reckon_4 := dk_seg dksX5_reckon_3 24 rfl rfl
theorem dksX5_reckon_5 : cX5_reckon.data.toList.drop 115 = dktX5_reckon_5 := dk_seg dksX5_reckon_4 23 rfl rfl
theorem dksX5_reckon_6 : cX5_reckon.data.toList.drop 139 = dktX5_reckon_6 := dk_seg dksX5_reckon_5 24 rfl rfl
theorem dX5_reckon_0 : decode cX5_reckon 0 = .ok (.iload_n 1, 1) := dk_27 (dk_at dksX5_reckon_0 0 rfl rfl)
theorem dX5_reckon_1 : decode cX5_reckon 1 = .ok (.tableswitch 148 20 26 #[43, 48, 53, 58, 90, 122, 135], 43) := by decide +kernel
theorem dX5_reckon_44 : decode cX5_reckon 44 = .ok (.lload_n 2, 1) := dk_32 (dk_at dksX5_reckon_2 0 rfl rfl)
theorem dX5_reckon_45 : decode cX5_reckon 45 = .ok (.lload 4, 2) := dk_22 4 (dk_at dksX5_reckon_2 1 rfl rfl)
theorem dX5_reckon_47 : decode cX5_reckon 47 = .ok (.ladd, 1) := dk_97 (dk_at dksX5_reckon_2 3 rfl rfl)
theorem dX5_reckon_48 : decode cX5_reckon 48 = .ok (.lreturn, 1) := dk_173 (dk_at dksX5_reckon_2 4 rfl rfl)
theorem dX5_reckon_49 : decode cX5_reckon 49 = .ok (.lload_n 2, 1) := dk_32 (dk_at dksX5_reckon_2 5 rfl rfl)
theorem dX5_reckon_50 : decode cX5_reckon 50 = .ok (.lload 4, 2) := dk_22 4 (dk_at dksX5_reckon_2 6 rfl rfl)
theorem dX5_reckon_52 : decode cX5_reckon 52 = .ok (.lsub, 1) := dk_101 (dk_at dksX5_reckon_2 8 rfl rfl)
theorem dX5_reckon_53 : decode cX5_reckon 53 = .ok (.lreturn, 1) := dk_173 (dk_at dksX5_reckon_2 9 rfl rfl)
theorem dX5_reckon_54 : decode cX5_reckon 54 = .ok (.lload_n 2, 1) := dk_32 (dk_at dksX5_reckon_2 10 rfl rfl)
theorem dX5_reckon_55 : decode cX5_reckon 55 = .ok (.lload 4, 2) := dk_22 4 (dk_at dksX5_reckon_2 11 rfl rfl)
theorem dX5_reckon_57 : decode cX5_reckon 57 = .ok (.lmul, 1) := dk_105 (dk_at dksX5_reckon_2 13 rfl rfl)
theorem dX5_reckon_58 : decode cX5_reckon 58 = .ok (.lreturn, 1) := dk_173 (dk_at dksX5_reckon_2 14 rfl rfl)
theorem dX5_reckon_59 : decode cX5_reckon 59 = .ok (.aload_n 0, 1) := dk_42 (dk_at dksX5_reckon_2 15 rfl rfl)
theorem dX5_reckon_60 : decode cX5_reckon 60 = .ok (.lload 4, 2) := dk_22 4 (dk_at dksX5_reckon_2 16 rfl rfl)
theorem dX5_reckon_62 : decode cX5_reckon 62 = .ok (.lconst 0, 1) := dk_9 (dk_at dksX5_reckon_2 18 rfl rfl)
theorem dX5_reckon_63 : decode cX5_reckon 63 = .ok (.lcmp, 1) := dk_148 (dk_at dksX5_reckon_2 19 rfl rfl)
theorem dX5_reckon_64 : decode cX5_reckon 64 = .ok (.ifCond .ne 7, 3) := dk_154 0 7 (dk_at dksX5_reckon_2 20 rfl rfl)
theorem dX5_reckon_67 : decode cX5_reckon 67 = .ok (.iconst 1, 1) := dk_4 (dk_at dksX5_reckon_2 23 rfl rfl)
theorem dX5_reckon_68 : decode cX5_reckon 68 = .ok (.goto 4, 3) := dk_167 0 4 (dk_at dksX5_reckon_3 0 rfl rfl)
theorem dX5_reckon_71 : decode cX5_reckon 71 = .ok (.iconst 0, 1) := dk_3 (dk_at dksX5_reckon_3 3 rfl rfl)
theorem dX5_reckon_72 : decode cX5_reckon 72 = .ok (.putfield 367, 3) := dk_181 1 111 (dk_at dksX5_reckon_3 4 rfl rfl)
theorem dX5_reckon_75 : decode cX5_reckon 75 = .ok (.aload_n 0, 1) := dk_42 (dk_at dksX5_reckon_3 7 rfl rfl)
theorem dX5_reckon_76 : decode cX5_reckon 76 = .ok (.getfield 367, 3) := dk_180 1 111 (dk_at dksX5_reckon_3 8 rfl rfl)
theorem dX5_reckon_79 : decode cX5_reckon 79 = .ok (.ifCond .eq 7, 3) := dk_153 0 7 (dk_at dksX5_reckon_3 11 rfl rfl)
theorem dX5_reckon_82 : decode cX5_reckon 82 = .ok (.lconst 0, 1) := dk_9 (dk_at dksX5_reckon_3 14 rfl rfl)
theorem dX5_reckon_83 : decode cX5_reckon 83 = .ok (.goto 7, 3) := dk_167 0 7 (dk_at dksX5_reckon_3 15 rfl rfl)
theorem dX5_reckon_86 : decode cX5_reckon 86 = .ok (.lload_n 2, 1) := dk_32 (dk_at dksX5_reckon_3 18 rfl rfl)
theorem dX5_reckon_87 : decode cX5_reckon 87 = .ok (.lload 4, 2) := dk_22 4 (dk_at dksX5_reckon_3 19 rfl rfl)
theorem dX5_reckon_89 : decode cX5_reckon 89 = .ok (.ldiv, 1) := dk_109 (dk_at dksX5_reckon_3 21 rfl rfl)
theorem dX5_reckon_90 : decode cX5_reckon 90 = .ok (.lreturn, 1) := dk_173 (dk_at dksX5_reckon_3 22 rfl rfl)
theorem dX5_reckon_91 : decode cX5_reckon 91 = .ok (.aload_n 0, 1) := dk_42 (dk_at dksX5_reckon_3 23 rfl rfl)
theorem dX5_reckon_92 : decode cX5_reckon 92 = .ok (.lload 4, 2) := dk_22 4 (dk_at dksX5_reckon_4 0 rfl rfl)
theorem dX5_reckon_94 : decode cX5_reckon 94 = .ok (.lconst 0, 1) := dk_9 (dk_at dksX5_reckon_4 2 rfl rfl)
theorem dX5_reckon_95 : decode cX5_reckon 95 = .ok (.lcmp, 1) := dk_148 (dk_at dksX5_reckon_4 3 rfl rfl)
theorem dX5_reckon_96 : decode cX5_reckon 96 = .ok (.ifCond .ne 7, 3) := dk_154 0 7 (dk_at dksX5_reckon_4 4 rfl rfl)
theorem dX5_reckon_99 : decode cX5_reckon 99 = .ok (.iconst 1, 1) := dk_4 (dk_at dksX5_reckon_4 7 rfl rfl)
theorem dX5_reckon_100 : decode cX5_reckon 100 = .ok (.goto 4, 3) := dk_167 0 4 (dk_at dksX5_reckon_4 8 rfl rfl)
theorem dX5_reckon_103 : decode cX5_reckon 103 = .ok (.iconst 0, 1) := dk_3 (dk_at dksX5_reckon_4 11 rfl rfl)
theorem dX5_reckon_104 : decode cX5_reckon 104 = .ok (.putfield 367, 3) := dk_181 1 111 (dk_at dksX5_reckon_4 12 rfl rfl)
theorem dX5_reckon_107 : decode cX5_reckon 107 = .ok (.aload_n 0, 1) := dk_42 (dk_at dksX5_reckon_4 15 rfl rfl)
theorem dX5_reckon_108 : decode cX5_reckon 108 = .ok (.getfield 367, 3) := dk_180 1 111 (dk_at dksX5_reckon_4 16 rfl rfl)
theorem dX5_reckon_111 : decode cX5_reckon 111 = .ok (.ifCond .eq 7, 3) := dk_153 0 7 (dk_at dksX5_reckon_4 19 rfl rfl)
theorem dX5_reckon_114 : decode cX5_reckon 114 = .ok (.lconst 0, 1) := dk_9 (dk_at dksX5_reckon_4 22 rfl rfl)
theorem dX5_reckon_115 : decode cX5_reckon 115 = .ok (.goto 7, 3) := dk_167 0 7 (dk_at dksX5_reckon_5 0 rfl rfl)
theorem dX5_reckon_118 : decode cX5_reckon 118 = .ok (.lload_n 2, 1) := dk_32 (dk_at dksX5_reckon_5 3 rfl rfl)
theorem dX5_reckon_119 : decode cX5_reckon 119 = .ok (.lload 4, 2) := dk_22 4 (dk_at dksX5_reckon_5 4 rfl rfl)
theorem dX5_reckon_121 : decode cX5_reckon 121 = .ok (.lrem, 1) := dk_113 (dk_at dksX5_reckon_5 6 rfl rfl)
theorem dX5_reckon_122 : decode cX5_reckon 122 = .ok (.lreturn, 1) := dk_173 (dk_at dksX5_reckon_5 7 rfl rfl)
theorem dX5_reckon_123 : decode cX5_reckon 123 = .ok (.lload_n 2, 1) := dk_32 (dk_at dksX5_reckon_5 8 rfl rfl)
theorem dX5_reckon_124 : decode cX5_reckon 124 = .ok (.lload 4, 2) := dk_22 4 (dk_at dksX5_reckon_5 9 rfl rfl)
theorem dX5_reckon_126 : decode cX5_reckon 126 = .ok (.lcmp, 1) := dk_148 (dk_at dksX5_reckon_5 11 rfl rfl)
theorem dX5_reckon_127 : decode cX5_reckon 127 = .ok (.ifCond .ge 7, 3) := dk_156 0 7 (dk_at dksX5_reckon_5 12 rfl rfl)
theorem dX5_reckon_130 : decode cX5_reckon 130 = .ok (.lconst 1, 1) := dk_10 (dk_at dksX5_reckon_5 15 rfl rfl)
theorem dX5_reckon_131 : decode cX5_reckon 131 = .ok (.goto 4, 3) := dk_167 0 4 (dk_at dksX5_reckon_5 16 rfl rfl)
theorem dX5_reckon_134 : decode cX5_reckon 134 = .ok (.lconst 0, 1) := dk_9 (dk_at dksX5_reckon_5 19 rfl rfl)
theorem dX5_reckon_135 : decode cX5_reckon 135 = .ok (.lreturn, 1) := dk_173 (dk_at dksX5_reckon_5 20 rfl rfl)
theorem dX5_reckon_136 : decode cX5_reckon 136 = .ok (.lload_n 2, 1) := dk_32 (dk_at dksX5_reckon_5 21 rfl rfl)
theorem dX5_reckon_137 : decode cX5_reckon 137 = .ok (.lload 4, 2) := dk_22 4 (dk_at dksX5_reckon_5 22 rfl rfl)
theorem dX5_reckon_139 : decode cX5_reckon 139 = .ok (.lcmp, 1) := dk_148 (dk_at dksX5_reckon_6 0 rfl rfl)
theorem dX5_reckon_140 : decode cX5_reckon 140 = .ok (.ifCond .le 7, 3) := dk_158 0 7 (dk_at dksX5_reckon_6 1 rfl rfl)
theorem dX5_reckon_143 : decode cX5_reckon 143 = .ok (.lconst 1, 1) := dk_10 (dk_at dksX5_reckon_6 4 rfl rfl)
theorem dX5_reckon_144 : decode cX5_reckon 144 = .ok (.goto 4, 3) := dk_167 0 4 (dk_at dksX5_reckon_6 5 rfl rfl)
theorem dX5_reckon_147 : decode cX5_reckon 147 = .ok (.lconst 0, 1) := dk_9 (dk_at dksX5_reckon_6 8 rfl rfl)
theorem dX5_reckon_148 : decode cX5_reckon 148 = .ok (.lreturn, 1) := dk_173 (dk_at dksX5_reckon_6 9 rfl rfl)
theorem dX5_reckon_149 : decode cX5_reckon 149 = .ok (.lload_n 2, 1) := dk_32 (dk_at dksX5_reckon_6 10 rfl rfl)
theorem dX5_reckon_150 : decode cX5_reckon 150 = .ok (.lload 4, 2) := dk_22 4 (dk_at dksX5_reckon_6 11 rfl rfl)
theorem dX5_reckon_152 : decode cX5_reckon 152 = .ok (.lcmp, 1) := dk_148 (dk_at dksX5_reckon_6 13 rfl rfl)
theorem dX5_reckon_153 : decode cX5_reckon 153 = .ok (.ifCond .ne 7, 3) := dk_154 0 7 (dk_at dksX5_reckon_6 14 rfl rfl)
theorem dX5_reckon_156 : decode cX5_reckon 156 = .ok (.lconst 1, 1) := dk_10 (dk_at dksX5_reckon_6 17 rfl rfl)
theorem dX5_reckon_157 : decode cX5_reckon 157 = .ok (.goto 4, 3) := dk_167 0 4 (dk_at dksX5_reckon_6 18 rfl rfl)
theorem dX5_reckon_160 : decode cX5_reckon 160 = .ok (.lconst 0, 1) := dk_9 (dk_at dksX5_reckon_6 21 rfl rfl)
theorem dX5_reckon_161 : decode cX5_reckon 161 = .ok (.lreturn, 1) := dk_173 (dk_at dksX5_reckon_6 22 rfl rfl)
abbrev cX5_within : ByteArray := prog_22_method_6_code
def yX5_within : MethodName := ⟨RX5, "within", "(JII)I"⟩
def dkwX5_within_1 : List UInt8 := [172]
abbrev dktX5_within_1 : List UInt8 := dkwX5_within_1 ++ []
def dkwX5_within_0 : List UInt8 := [30, 28, 133, 148, 156, 0, 7, 28, 167, 0, 16, 30, 29, 133, 148, 158, 0, 7, 29, 167, 0, 5, 30, 136]
abbrev dktX5_within_0 : List UInt8 := dkwX5_within_0 ++ dktX5_within_1
theorem dksX5_within_0 : cX5_within.data.toList.drop 0 = dktX5_within_0 := by decide +kernel
theorem dksX5_within_1 : cX5_within.data.toList.drop 24 = dktX5_within_1 := dk_seg dksX5_within_0 24 rfl rfl
theorem dX5_within_0 : decode cX5_within 0 = .ok (.lload_n 0, 1) := dk_30 (dk_at dksX5_within_0 0 rfl rfl)
theorem dX5_within_1 : decode cX5_within 1 = .ok (.iload_n 2, 1) := dk_28 (dk_at dksX5_within_0 1 rfl rfl)
theorem dX5_within_2 : decode cX5_within 2 = .ok (.i2l, 1) := dk_133 (dk_at dksX5_within_0 2 rfl rfl)
theorem dX5_within_3 : decode cX5_within 3 = .ok (.lcmp, 1) := dk_148 (dk_at dksX5_within_0 3 rfl rfl)
theorem dX5_within_4 : decode cX5_within 4 = .ok (.ifCond .ge 7, 3) := dk_156 0 7 (dk_at dksX5_within_0 4 rfl rfl)
theorem dX5_within_7 : decode cX5_within 7 = .ok (.iload_n 2, 1) := dk_28 (dk_at dksX5_within_0 7 rfl rfl)
theorem dX5_within_8 : decode cX5_within 8 = .ok (.goto 16, 3) := dk_167 0 16 (dk_at dksX5_within_0 8 rfl rfl)
theorem dX5_within_11 : decode cX5_within 11 = .ok (.lload_n 0, 1) := dk_30 (dk_at dksX5_within_0 11 rfl rfl)
theorem dX5_within_12 : decode cX5_within 12 = .ok (.iload_n 3, 1) := dk_29 (dk_at dksX5_within_0 12 rfl rfl)
theorem dX5_within_13 : decode cX5_within 13 = .ok (.i2l, 1) := dk_133 (dk_at dksX5_within_0 13 rfl rfl)
theorem dX5_within_14 : decode cX5_within 14 = .ok (.lcmp, 1) := dk_148 (dk_at dksX5_within_0 14 rfl rfl)
theorem dX5_within_15 : decode cX5_within 15 = .ok (.ifCond .le 7, 3) := dk_158 0 7 (dk_at dksX5_within_0 15 rfl rfl)
theorem dX5_within_18 : decode cX5_within 18 = .ok (.iload_n 3, 1) := dk_29 (dk_at dksX5_within_0 18 rfl rfl)
theorem dX5_within_19 : decode cX5_within 19 = .ok (.goto 5, 3) := dk_167 0 5 (dk_at dksX5_within_0 19 rfl rfl)
theorem dX5_within_22 : decode cX5_within 22 = .ok (.lload_n 0, 1) := dk_30 (dk_at dksX5_within_0 22 rfl rfl)
theorem dX5_within_23 : decode cX5_within 23 = .ok (.l2i, 1) := dk_136 (dk_at dksX5_within_0 23 rfl rfl)
theorem dX5_within_24 : decode cX5_within 24 = .ok (.ireturn, 1) := dk_172 (dk_at dksX5_within_1 0 rfl rfl)
abbrev cX5_isBarred : ByteArray := prog_22_method_66_code
def yX5_isBarred : MethodName := ⟨RX5, "isBarred", "(II)Z"⟩
def dkwX5_isBarred_0 : List UInt8 := [42, 6, 27, 28, 2, 2, 2, 9, 182, 1, 137, 10, 148, 154, 0, 7, 4, 167, 0, 4, 3, 172]
abbrev dktX5_isBarred_0 : List UInt8 := dkwX5_isBarred_0 ++ []
theorem dksX5_isBarred_0 : cX5_isBarred.data.toList.drop 0 = dktX5_isBarred_0 := by decide +kernel
theorem dX5_isBarred_0 : decode cX5_isBarred 0 = .ok (.aload_n 0, 1) := dk_42 (dk_at dksX5_isBarred_0 0 rfl rfl)
theorem dX5_isBarred_1 : decode cX5_isBarred 1 = .ok (.iconst 3, 1) := dk_6 (dk_at dksX5_isBarred_0 1 rfl rfl)
theorem dX5_isBarred_2 : decode cX5_isBarred 2 = .ok (.iload_n 1, 1) := dk_27 (dk_at dksX5_isBarred_0 2 rfl rfl)
theorem dX5_isBarred_3 : decode cX5_isBarred 3 = .ok (.iload_n 2, 1) := dk_28 (dk_at dksX5_isBarred_0 3 rfl rfl)
theorem dX5_isBarred_4 : decode cX5_isBarred 4 = .ok (.iconst (-1), 1) := dk_2 (dk_at dksX5_isBarred_0 4 rfl rfl)
theorem dX5_isBarred_5 : decode cX5_isBarred 5 = .ok (.iconst (-1), 1) := dk_2 (dk_at dksX5_isBarred_0 5 rfl rfl)
theorem dX5_isBarred_6 : decode cX5_isBarred 6 = .ok (.iconst (-1), 1) := dk_2 (dk_at dksX5_isBarred_0 6 rfl rfl)
theorem dX5_isBarred_7 : decode cX5_isBarred 7 = .ok (.lconst 0, 1) := dk_9 (dk_at dksX5_isBarred_0 7 rfl rfl)
theorem dX5_isBarred_8 : decode cX5_isBarred 8 = .ok (.invokevirtual 393, 3) := dk_182 1 137 (dk_at dksX5_isBarred_0 8 rfl rfl)
theorem dX5_isBarred_11 : decode cX5_isBarred 11 = .ok (.lconst 1, 1) := dk_10 (dk_at dksX5_isBarred_0 11 rfl rfl)
theorem dX5_isBarred_12 : decode cX5_isBarred 12 = .ok (.lcmp, 1) := dk_148 (dk_at dksX5_isBarred_0 12 rfl rfl)
theorem dX5_isBarred_13 : decode cX5_isBarred 13 = .ok (.ifCond .ne 7, 3) := dk_154 0 7 (dk_at dksX5_isBarred_0 13 rfl rfl)
theorem dX5_isBarred_16 : decode cX5_isBarred 16 = .ok (.iconst 1, 1) := dk_4 (dk_at dksX5_isBarred_0 16 rfl rfl)
theorem dX5_isBarred_17 : decode cX5_isBarred 17 = .ok (.goto 4, 3) := dk_167 0 4 (dk_at dksX5_isBarred_0 17 rfl rfl)
theorem dX5_isBarred_20 : decode cX5_isBarred 20 = .ok (.iconst 0, 1) := dk_3 (dk_at dksX5_isBarred_0 20 rfl rfl)
theorem dX5_isBarred_21 : decode cX5_isBarred 21 = .ok (.ireturn, 1) := dk_172 (dk_at dksX5_isBarred_0 21 rfl rfl)
abbrev cX5_turnsAt : ByteArray := prog_22_method_67_code
def yX5_turnsAt : MethodName := ⟨RX5, "turnsAt", "(III)I"⟩
def dkwX5_turnsAt_1 : List UInt8 := [172]
abbrev dktX5_turnsAt_1 : List UInt8 := dkwX5_turnsAt_1 ++ []
def dkwX5_turnsAt_0 : List UInt8 := [42, 3, 27, 2, 28, 42, 27, 29, 182, 1, 145, 2, 20, 1, 148, 182, 1, 137, 3, 16, 100, 184, 1, 141]
abbrev dktX5_turnsAt_0 : List UInt8 := dkwX5_turnsAt_0 ++ dktX5_turnsAt_1
theorem dksX5_turnsAt_0 : cX5_turnsAt.data.toList.drop 0 = dktX5_turnsAt_0 := by decide +kernel
theorem dksX5_turnsAt_1 : cX5_turnsAt.data.toList.drop 24 = dktX5_turnsAt_1 := dk_seg dksX5_turnsAt_0 24 rfl rfl
theorem dX5_turnsAt_0 : decode cX5_turnsAt 0 = .ok (.aload_n 0, 1) := dk_42 (dk_at dksX5_turnsAt_0 0 rfl rfl)
theorem dX5_turnsAt_1 : decode cX5_turnsAt 1 = .ok (.iconst 0, 1) := dk_3 (dk_at dksX5_turnsAt_0 1 rfl rfl)
theorem dX5_turnsAt_2 : decode cX5_turnsAt 2 = .ok (.iload_n 1, 1) := dk_27 (dk_at dksX5_turnsAt_0 2 rfl rfl)
theorem dX5_turnsAt_3 : decode cX5_turnsAt 3 = .ok (.iconst (-1), 1) := dk_2 (dk_at dksX5_turnsAt_0 3 rfl rfl)
theorem dX5_turnsAt_4 : decode cX5_turnsAt 4 = .ok (.iload_n 2, 1) := dk_28 (dk_at dksX5_turnsAt_0 4 rfl rfl)
theorem dX5_turnsAt_5 : decode cX5_turnsAt 5 = .ok (.aload_n 0, 1) := dk_42 (dk_at dksX5_turnsAt_0 5 rfl rfl)
theorem dX5_turnsAt_6 : decode cX5_turnsAt 6 = .ok (.iload_n 1, 1) := dk_27 (dk_at dksX5_turnsAt_0 6 rfl rfl)
theorem dX5_turnsAt_7 : decode cX5_turnsAt 7 = .ok (.iload_n 3, 1) := dk_29 (dk_at dksX5_turnsAt_0 7 rfl rfl)
theorem dX5_turnsAt_8 : decode cX5_turnsAt 8 = .ok (.invokevirtual 401, 3) := dk_182 1 145 (dk_at dksX5_turnsAt_0 8 rfl rfl)
theorem dX5_turnsAt_11 : decode cX5_turnsAt 11 = .ok (.iconst (-1), 1) := dk_2 (dk_at dksX5_turnsAt_0 11 rfl rfl)
theorem dX5_turnsAt_12 : decode cX5_turnsAt 12 = .ok (.ldc2_w 404, 3) := dk_20 1 148 (dk_at dksX5_turnsAt_0 12 rfl rfl)
theorem dX5_turnsAt_15 : decode cX5_turnsAt 15 = .ok (.invokevirtual 393, 3) := dk_182 1 137 (dk_at dksX5_turnsAt_0 15 rfl rfl)
theorem dX5_turnsAt_18 : decode cX5_turnsAt 18 = .ok (.iconst 0, 1) := dk_3 (dk_at dksX5_turnsAt_0 18 rfl rfl)
theorem dX5_turnsAt_19 : decode cX5_turnsAt 19 = .ok (.bipush 100, 2) := dk_16 100 (dk_at dksX5_turnsAt_0 19 rfl rfl)
theorem dX5_turnsAt_21 : decode cX5_turnsAt 21 = .ok (.invokestatic 397, 3) := dk_184 1 141 (dk_at dksX5_turnsAt_0 21 rfl rfl)
theorem dX5_turnsAt_24 : decode cX5_turnsAt 24 = .ok (.ireturn, 1) := dk_172 (dk_at dksX5_turnsAt_1 0 rfl rfl)
abbrev cX5_hundredths : ByteArray := prog_22_method_19_code
def yX5_hundredths : MethodName := ⟨RX5, "hundredths", "(II)I"⟩
def dkwX5_hundredths_0 : List UInt8 := [42, 27, 28, 182, 0, 181, 20, 0, 185, 109, 136, 172]
abbrev dktX5_hundredths_0 : List UInt8 := dkwX5_hundredths_0 ++ []
theorem dksX5_hundredths_0 : cX5_hundredths.data.toList.drop 0 = dktX5_hundredths_0 := by decide +kernel
theorem dX5_hundredths_0 : decode cX5_hundredths 0 = .ok (.aload_n 0, 1) := dk_42 (dk_at dksX5_hundredths_0 0 rfl rfl)
theorem dX5_hundredths_1 : decode cX5_hundredths 1 = .ok (.iload_n 1, 1) := dk_27 (dk_at dksX5_hundredths_0 1 rfl rfl)
theorem dX5_hundredths_2 : decode cX5_hundredths 2 = .ok (.iload_n 2, 1) := dk_28 (dk_at dksX5_hundredths_0 2 rfl rfl)
theorem dX5_hundredths_3 : decode cX5_hundredths 3 = .ok (.invokevirtual 181, 3) := dk_182 0 181 (dk_at dksX5_hundredths_0 3 rfl rfl)
theorem dX5_hundredths_6 : decode cX5_hundredths 6 = .ok (.ldc2_w 185, 3) := dk_20 0 185 (dk_at dksX5_hundredths_0 6 rfl rfl)
theorem dX5_hundredths_9 : decode cX5_hundredths 9 = .ok (.ldiv, 1) := dk_109 (dk_at dksX5_hundredths_0 9 rfl rfl)
theorem dX5_hundredths_10 : decode cX5_hundredths 10 = .ok (.l2i, 1) := dk_136 (dk_at dksX5_hundredths_0 10 rfl rfl)
theorem dX5_hundredths_11 : decode cX5_hundredths 11 = .ok (.ireturn, 1) := dk_172 (dk_at dksX5_hundredths_0 11 rfl rfl)
abbrev cX5_isTurned : ByteArray := prog_22_method_68_code
def yX5_isTurned : MethodName := ⟨RX5, "isTurned", "(III)Z"⟩
def dkwX5_isTurned_0 : List UInt8 := [42, 27, 29, 182, 1, 145, 42, 27, 28, 29, 182, 1, 150, 161, 0, 7, 4, 167, 0, 4, 3, 172]
abbrev dktX5_isTurned_0 : List UInt8 := dkwX5_isTurned_0 ++ []
theorem dksX5_isTurned_0 : cX5_isTurned.data.toList.drop 0 = dktX5_isTurned_0 := by decide +kernel
theorem dX5_isTurned_0 : decode cX5_isTurned 0 = .ok (.aload_n 0, 1) := dk_42 (dk_at dksX5_isTurned_0 0 rfl rfl)
theorem dX5_isTurned_1 : decode cX5_isTurned 1 = .ok (.iload_n 1, 1) := dk_27 (dk_at dksX5_isTurned_0 1 rfl rfl)
theorem dX5_isTurned_2 : decode cX5_isTurned 2 = .ok (.iload_n 3, 1) := dk_29 (dk_at dksX5_isTurned_0 2 rfl rfl)
theorem dX5_isTurned_3 : decode cX5_isTurned 3 = .ok (.invokevirtual 401, 3) := dk_182 1 145 (dk_at dksX5_isTurned_0 3 rfl rfl)
theorem dX5_isTurned_6 : decode cX5_isTurned 6 = .ok (.aload_n 0, 1) := dk_42 (dk_at dksX5_isTurned_0 6 rfl rfl)
theorem dX5_isTurned_7 : decode cX5_isTurned 7 = .ok (.iload_n 1, 1) := dk_27 (dk_at dksX5_isTurned_0 7 rfl rfl)
theorem dX5_isTurned_8 : decode cX5_isTurned 8 = .ok (.iload_n 2, 1) := dk_28 (dk_at dksX5_isTurned_0 8 rfl rfl)
theorem dX5_isTurned_9 : decode cX5_isTurned 9 = .ok (.iload_n 3, 1) := dk_29 (dk_at dksX5_isTurned_0 9 rfl rfl)
theorem dX5_isTurned_10 : decode cX5_isTurned 10 = .ok (.invokevirtual 406, 3) := dk_182 1 150 (dk_at dksX5_isTurned_0 10 rfl rfl)
theorem dX5_isTurned_13 : decode cX5_isTurned 13 = .ok (.if_icmp .lt 7, 3) := dk_161 0 7 (dk_at dksX5_isTurned_0 13 rfl rfl)
theorem dX5_isTurned_16 : decode cX5_isTurned 16 = .ok (.iconst 1, 1) := dk_4 (dk_at dksX5_isTurned_0 16 rfl rfl)
theorem dX5_isTurned_17 : decode cX5_isTurned 17 = .ok (.goto 4, 3) := dk_167 0 4 (dk_at dksX5_isTurned_0 17 rfl rfl)
theorem dX5_isTurned_20 : decode cX5_isTurned 20 = .ok (.iconst 0, 1) := dk_3 (dk_at dksX5_isTurned_0 20 rfl rfl)
theorem dX5_isTurned_21 : decode cX5_isTurned 21 = .ok (.ireturn, 1) := dk_172 (dk_at dksX5_isTurned_0 21 rfl rfl)
abbrev cX5_show : ByteArray := prog_22_method_72_code
def yX5_show : MethodName := ⟨RX5, "show", "(II)I"⟩
def dkwX5_show_0 : List UInt8 := [42, 3, 181, 0, 142, 42, 42, 27, 28, 182, 1, 170, 182, 0, 155, 172]
abbrev dktX5_show_0 : List UInt8 := dkwX5_show_0 ++ []
theorem dksX5_show_0 : cX5_show.data.toList.drop 0 = dktX5_show_0 := by decide +kernel
theorem dX5_show_0 : decode cX5_show 0 = .ok (.aload_n 0, 1) := dk_42 (dk_at dksX5_show_0 0 rfl rfl)
theorem dX5_show_1 : decode cX5_show 1 = .ok (.iconst 0, 1) := dk_3 (dk_at dksX5_show_0 1 rfl rfl)
theorem dX5_show_2 : decode cX5_show 2 = .ok (.putfield 142, 3) := dk_181 0 142 (dk_at dksX5_show_0 2 rfl rfl)
theorem dX5_show_5 : decode cX5_show 5 = .ok (.aload_n 0, 1) := dk_42 (dk_at dksX5_show_0 5 rfl rfl)
theorem dX5_show_6 : decode cX5_show 6 = .ok (.aload_n 0, 1) := dk_42 (dk_at dksX5_show_0 6 rfl rfl)
theorem dX5_show_7 : decode cX5_show 7 = .ok (.iload_n 1, 1) := dk_27 (dk_at dksX5_show_0 7 rfl rfl)
theorem dX5_show_8 : decode cX5_show 8 = .ok (.iload_n 2, 1) := dk_28 (dk_at dksX5_show_0 8 rfl rfl)
theorem dX5_show_9 : decode cX5_show 9 = .ok (.invokevirtual 426, 3) := dk_182 1 170 (dk_at dksX5_show_0 9 rfl rfl)
theorem dX5_show_12 : decode cX5_show 12 = .ok (.invokevirtual 155, 3) := dk_182 0 155 (dk_at dksX5_show_0 12 rfl rfl)
theorem dX5_show_15 : decode cX5_show 15 = .ok (.ireturn, 1) := dk_172 (dk_at dksX5_show_0 15 rfl rfl)
abbrev cX5_showNow : ByteArray := prog_22_method_71_code
def yX5_showNow : MethodName := ⟨RX5, "showNow", "(II)I"⟩
def dkwX5_showNow_2 : List UInt8 := [180, 0, 13, 16, 19, 27, 96, 92, 46, 4, 28, 120, 128, 79, 29, 172]
abbrev dktX5_showNow_2 : List UInt8 := dkwX5_showNow_2 ++ []
def dkwX5_showNow_1 : List UInt8 := [182, 1, 164, 154, 0, 6, 16, 253, 172, 42, 3, 182, 1, 167, 42, 27, 28, 182, 1, 154, 62, 42]
abbrev dktX5_showNow_1 : List UInt8 := dkwX5_showNow_1 ++ dktX5_showNow_2
def dkwX5_showNow_0 : List UInt8 := [28, 184, 0, 199, 154, 0, 5, 2, 172, 42, 27, 182, 0, 195, 154, 0, 6, 16, 254, 172, 42, 27, 28]
abbrev dktX5_showNow_0 : List UInt8 := dkwX5_showNow_0 ++ dktX5_showNow_1
theorem dksX5_showNow_0 : cX5_showNow.data.toList.drop 0 = dktX5_showNow_0 := by decide +kernel
theorem dksX5_showNow_1 : cX5_showNow.data.toList.drop 23 = dktX5_showNow_1 := dk_seg dksX5_showNow_0 23 rfl rfl
theorem dksX5_showNow_2 : cX5_showNow.data.toList.drop 45 = dktX5_showNow_2 := dk_seg dksX5_showNow_1 22 rfl rfl
theorem dX5_showNow_0 : decode cX5_showNow 0 = .ok (.iload_n 2, 1) := dk_28 (dk_at dksX5_showNow_0 0 rfl rfl)
theorem dX5_showNow_1 : decode cX5_showNow 1 = .ok (.invokestatic 199, 3) := dk_184 0 199 (dk_at dksX5_showNow_0 1 rfl rfl)
theorem dX5_showNow_4 : decode cX5_showNow 4 = .ok (.ifCond .ne 5, 3) := dk_154 0 5 (dk_at dksX5_showNow_0 4 rfl rfl)
theorem dX5_showNow_7 : decode cX5_showNow 7 = .ok (.iconst (-1), 1) := dk_2 (dk_at dksX5_showNow_0 7 rfl rfl)
theorem dX5_showNow_8 : decode cX5_showNow 8 = .ok (.ireturn, 1) := dk_172 (dk_at dksX5_showNow_0 8 rfl rfl)
theorem dX5_showNow_9 : decode cX5_showNow 9 = .ok (.aload_n 0, 1) := dk_42 (dk_at dksX5_showNow_0 9 rfl rfl)
theorem dX5_showNow_10 : decode cX5_showNow 10 = .ok (.iload_n 1, 1) := dk_27 (dk_at dksX5_showNow_0 10 rfl rfl)
theorem dX5_showNow_11 : decode cX5_showNow 11 = .ok (.invokevirtual 195, 3) := dk_182 0 195 (dk_at dksX5_showNow_0 11 rfl rfl)
theorem dX5_showNow_14 : decode cX5_showNow 14 = .ok (.ifCond .ne 6, 3) := dk_154 0 6 (dk_at dksX5_showNow_0 14 rfl rfl)
theorem dX5_showNow_17 : decode cX5_showNow 17 = .ok (.bipush (-2), 2) := dk_16 254 (dk_at dksX5_showNow_0 17 rfl rfl)
theorem dX5_showNow_19 : decode cX5_showNow 19 = .ok (.ireturn, 1) := dk_172 (dk_at dksX5_showNow_0 19 rfl rfl)
theorem dX5_showNow_20 : decode cX5_showNow 20 = .ok (.aload_n 0, 1) := dk_42 (dk_at dksX5_showNow_0 20 rfl rfl)
theorem dX5_showNow_21 : decode cX5_showNow 21 = .ok (.iload_n 1, 1) := dk_27 (dk_at dksX5_showNow_0 21 rfl rfl)
theorem dX5_showNow_22 : decode cX5_showNow 22 = .ok (.iload_n 2, 1) := dk_28 (dk_at dksX5_showNow_0 22 rfl rfl)
theorem dX5_showNow_23 : decode cX5_showNow 23 = .ok (.invokevirtual 420, 3) := dk_182 1 164 (dk_at dksX5_showNow_1 0 rfl rfl)
theorem dX5_showNow_26 : decode cX5_showNow 26 = .ok (.ifCond .ne 6, 3) := dk_154 0 6 (dk_at dksX5_showNow_1 3 rfl rfl)
theorem dX5_showNow_29 : decode cX5_showNow 29 = .ok (.bipush (-3), 2) := dk_16 253 (dk_at dksX5_showNow_1 6 rfl rfl)
theorem dX5_showNow_31 : decode cX5_showNow 31 = .ok (.ireturn, 1) := dk_172 (dk_at dksX5_showNow_1 8 rfl rfl)
theorem dX5_showNow_32 : decode cX5_showNow 32 = .ok (.aload_n 0, 1) := dk_42 (dk_at dksX5_showNow_1 9 rfl rfl)
theorem dX5_showNow_33 : decode cX5_showNow 33 = .ok (.iconst 0, 1) := dk_3 (dk_at dksX5_showNow_1 10 rfl rfl)
theorem dX5_showNow_34 : decode cX5_showNow 34 = .ok (.invokevirtual 423, 3) := dk_182 1 167 (dk_at dksX5_showNow_1 11 rfl rfl)
theorem dX5_showNow_37 : decode cX5_showNow 37 = .ok (.aload_n 0, 1) := dk_42 (dk_at dksX5_showNow_1 14 rfl rfl)
theorem dX5_showNow_38 : decode cX5_showNow 38 = .ok (.iload_n 1, 1) := dk_27 (dk_at dksX5_showNow_1 15 rfl rfl)
theorem dX5_showNow_39 : decode cX5_showNow 39 = .ok (.iload_n 2, 1) := dk_28 (dk_at dksX5_showNow_1 16 rfl rfl)
theorem dX5_showNow_40 : decode cX5_showNow 40 = .ok (.invokevirtual 410, 3) := dk_182 1 154 (dk_at dksX5_showNow_1 17 rfl rfl)
theorem dX5_showNow_43 : decode cX5_showNow 43 = .ok (.istore_n 3, 1) := dk_62 (dk_at dksX5_showNow_1 20 rfl rfl)
theorem dX5_showNow_44 : decode cX5_showNow 44 = .ok (.aload_n 0, 1) := dk_42 (dk_at dksX5_showNow_1 21 rfl rfl)
theorem dX5_showNow_45 : decode cX5_showNow 45 = .ok (.getfield 13, 3) := dk_180 0 13 (dk_at dksX5_showNow_2 0 rfl rfl)
theorem dX5_showNow_48 : decode cX5_showNow 48 = .ok (.bipush 19, 2) := dk_16 19 (dk_at dksX5_showNow_2 3 rfl rfl)
theorem dX5_showNow_50 : decode cX5_showNow 50 = .ok (.iload_n 1, 1) := dk_27 (dk_at dksX5_showNow_2 5 rfl rfl)
theorem dX5_showNow_51 : decode cX5_showNow 51 = .ok (.iadd, 1) := dk_96 (dk_at dksX5_showNow_2 6 rfl rfl)
theorem dX5_showNow_52 : decode cX5_showNow 52 = .ok (.dup2, 1) := dk_92 (dk_at dksX5_showNow_2 7 rfl rfl)
theorem dX5_showNow_53 : decode cX5_showNow 53 = .ok (.iaload, 1) := dk_46 (dk_at dksX5_showNow_2 8 rfl rfl)
theorem dX5_showNow_54 : decode cX5_showNow 54 = .ok (.iconst 1, 1) := dk_4 (dk_at dksX5_showNow_2 9 rfl rfl)
theorem dX5_showNow_55 : decode cX5_showNow 55 = .ok (.iload_n 2, 1) := dk_28 (dk_at dksX5_showNow_2 10 rfl rfl)
theorem dX5_showNow_56 : decode cX5_showNow 56 = .ok (.ishl, 1) := dk_120 (dk_at dksX5_showNow_2 11 rfl rfl)
theorem dX5_showNow_57 : decode cX5_showNow 57 = .ok (.ior, 1) := dk_128 (dk_at dksX5_showNow_2 12 rfl rfl)
theorem dX5_showNow_58 : decode cX5_showNow 58 = .ok (.iastore, 1) := dk_79 (dk_at dksX5_showNow_2 13 rfl rfl)
theorem dX5_showNow_59 : decode cX5_showNow 59 = .ok (.iload_n 3, 1) := dk_29 (dk_at dksX5_showNow_2 14 rfl rfl)
theorem dX5_showNow_60 : decode cX5_showNow 60 = .ok (.ireturn, 1) := dk_172 (dk_at dksX5_showNow_2 15 rfl rfl)
abbrev cX5_canShow : ByteArray := prog_22_method_70_code
def yX5_canShow : MethodName := ⟨RX5, "canShow", "(II)Z"⟩
def dkwX5_canShow_1 : List UInt8 := [184, 0, 170, 154, 0, 16, 42, 27, 28, 182, 1, 157, 154, 0, 7, 4, 167, 0, 4, 3, 172]
abbrev dktX5_canShow_1 : List UInt8 := dkwX5_canShow_1 ++ []
def dkwX5_canShow_0 : List UInt8 := [42, 180, 0, 13, 16, 25, 27, 96, 46, 154, 0, 32, 42, 180, 0, 13, 16, 19, 27, 96, 46, 28]
abbrev dktX5_canShow_0 : List UInt8 := dkwX5_canShow_0 ++ dktX5_canShow_1
theorem dksX5_canShow_0 : cX5_canShow.data.toList.drop 0 = dktX5_canShow_0 := by decide +kernel
theorem dksX5_canShow_1 : cX5_canShow.data.toList.drop 22 = dktX5_canShow_1 := dk_seg dksX5_canShow_0 22 rfl rfl
theorem dX5_canShow_0 : decode cX5_canShow 0 = .ok (.aload_n 0, 1) := dk_42 (dk_at dksX5_canShow_0 0 rfl rfl)
theorem dX5_canShow_1 : decode cX5_canShow 1 = .ok (.getfield 13, 3) := dk_180 0 13 (dk_at dksX5_canShow_0 1 rfl rfl)
theorem dX5_canShow_4 : decode cX5_canShow 4 = .ok (.bipush 25, 2) := dk_16 25 (dk_at dksX5_canShow_0 4 rfl rfl)
theorem dX5_canShow_6 : decode cX5_canShow 6 = .ok (.iload_n 1, 1) := dk_27 (dk_at dksX5_canShow_0 6 rfl rfl)
theorem dX5_canShow_7 : decode cX5_canShow 7 = .ok (.iadd, 1) := dk_96 (dk_at dksX5_canShow_0 7 rfl rfl)
theorem dX5_canShow_8 : decode cX5_canShow 8 = .ok (.iaload, 1) := dk_46 (dk_at dksX5_canShow_0 8 rfl rfl)
theorem dX5_canShow_9 : decode cX5_canShow 9 = .ok (.ifCond .ne 32, 3) := dk_154 0 32 (dk_at dksX5_canShow_0 9 rfl rfl)
theorem dX5_canShow_12 : decode cX5_canShow 12 = .ok (.aload_n 0, 1) := dk_42 (dk_at dksX5_canShow_0 12 rfl rfl)
theorem dX5_canShow_13 : decode cX5_canShow 13 = .ok (.getfield 13, 3) := dk_180 0 13 (dk_at dksX5_canShow_0 13 rfl rfl)
theorem dX5_canShow_16 : decode cX5_canShow 16 = .ok (.bipush 19, 2) := dk_16 19 (dk_at dksX5_canShow_0 16 rfl rfl)
theorem dX5_canShow_18 : decode cX5_canShow 18 = .ok (.iload_n 1, 1) := dk_27 (dk_at dksX5_canShow_0 18 rfl rfl)
theorem dX5_canShow_19 : decode cX5_canShow 19 = .ok (.iadd, 1) := dk_96 (dk_at dksX5_canShow_0 19 rfl rfl)
theorem dX5_canShow_20 : decode cX5_canShow 20 = .ok (.iaload, 1) := dk_46 (dk_at dksX5_canShow_0 20 rfl rfl)
theorem dX5_canShow_21 : decode cX5_canShow 21 = .ok (.iload_n 2, 1) := dk_28 (dk_at dksX5_canShow_0 21 rfl rfl)
theorem dX5_canShow_22 : decode cX5_canShow 22 = .ok (.invokestatic 170, 3) := dk_184 0 170 (dk_at dksX5_canShow_1 0 rfl rfl)
theorem dX5_canShow_25 : decode cX5_canShow 25 = .ok (.ifCond .ne 16, 3) := dk_154 0 16 (dk_at dksX5_canShow_1 3 rfl rfl)
theorem dX5_canShow_28 : decode cX5_canShow 28 = .ok (.aload_n 0, 1) := dk_42 (dk_at dksX5_canShow_1 6 rfl rfl)
theorem dX5_canShow_29 : decode cX5_canShow 29 = .ok (.iload_n 1, 1) := dk_27 (dk_at dksX5_canShow_1 7 rfl rfl)
theorem dX5_canShow_30 : decode cX5_canShow 30 = .ok (.iload_n 2, 1) := dk_28 (dk_at dksX5_canShow_1 8 rfl rfl)
theorem dX5_canShow_31 : decode cX5_canShow 31 = .ok (.invokevirtual 413, 3) := dk_182 1 157 (dk_at dksX5_canShow_1 9 rfl rfl)
theorem dX5_canShow_34 : decode cX5_canShow 34 = .ok (.ifCond .ne 7, 3) := dk_154 0 7 (dk_at dksX5_canShow_1 12 rfl rfl)
theorem dX5_canShow_37 : decode cX5_canShow 37 = .ok (.iconst 1, 1) := dk_4 (dk_at dksX5_canShow_1 15 rfl rfl)
theorem dX5_canShow_38 : decode cX5_canShow 38 = .ok (.goto 4, 3) := dk_167 0 4 (dk_at dksX5_canShow_1 16 rfl rfl)
theorem dX5_canShow_41 : decode cX5_canShow 41 = .ok (.iconst 0, 1) := dk_3 (dk_at dksX5_canShow_1 19 rfl rfl)
theorem dX5_canShow_42 : decode cX5_canShow 42 = .ok (.ireturn, 1) := dk_172 (dk_at dksX5_canShow_1 20 rfl rfl)
abbrev cX5_remember : ByteArray := prog_22_method_11_code
def yX5_remember : MethodName := ⟨RX5, "remember", "(I)V"⟩
def dkwX5_remember_4 : List UInt8 := [89, 180, 0, 148, 4, 96, 181, 0, 148, 177]
abbrev dktX5_remember_4 : List UInt8 := dkwX5_remember_4 ++ []
def dkwX5_remember_3 : List UInt8 := [4, 100, 181, 0, 148, 42, 42, 180, 0, 148, 182, 0, 151, 42, 180, 0, 26, 42, 180, 0, 148, 27, 79, 42]
abbrev dktX5_remember_3 : List UInt8 := dkwX5_remember_3 ++ dktX5_remember_4
def dkwX5_remember_2 : List UInt8 := [180, 0, 26, 28, 42, 180, 0, 26, 28, 4, 96, 46, 79, 132, 2, 1, 167, 255, 233, 42, 89, 180, 0, 148]
abbrev dktX5_remember_2 : List UInt8 := dkwX5_remember_2 ++ dktX5_remember_3
def dkwX5_remember_1 : List UInt8 := [180, 0, 23, 28, 16, 25, 96, 46, 79, 132, 2, 1, 167, 255, 231, 3, 61, 28, 16, 15, 162, 0, 23, 42]
abbrev dktX5_remember_1 : List UInt8 := dkwX5_remember_1 ++ dktX5_remember_2
def dkwX5_remember_0 : List UInt8 := [42, 180, 0, 148, 16, 16, 160, 0, 71, 3, 61, 28, 17, 1, 119, 162, 0, 24, 42, 180, 0, 23, 28, 42]
abbrev dktX5_remember_0 : List UInt8 := dkwX5_remember_0 ++ dktX5_remember_1
theorem dksX5_remember_0 : cX5_remember.data.toList.drop 0 = dktX5_remember_0 := by decide +kernel
theorem dksX5_remember_1 : cX5_remember.data.toList.drop 24 = dktX5_remember_1 := dk_seg dksX5_remember_0 24 rfl rfl
theorem dksX5_remember_2 : cX5_remember.data.toList.drop 48 = dktX5_remember_2 := dk_seg dksX5_remember_1 24 rfl rfl
theorem dksX5_remember_3 : cX5_remember.data.toList.drop 72 = dktX5_remember_3 := dk_seg dksX5_remember_2 24 rfl rfl
theorem dksX5_remember_4 : cX5_remember.data.toList.drop 96 = dktX5_remember_4 := dk_seg dksX5_remember_3 24 rfl rfl
theorem dX5_remember_0 : decode cX5_remember 0 = .ok (.aload_n 0, 1) := dk_42 (dk_at dksX5_remember_0 0 rfl rfl)
theorem dX5_remember_1 : decode cX5_remember 1 = .ok (.getfield 148, 3) := dk_180 0 148 (dk_at dksX5_remember_0 1 rfl rfl)
theorem dX5_remember_4 : decode cX5_remember 4 = .ok (.bipush 16, 2) := dk_16 16 (dk_at dksX5_remember_0 4 rfl rfl)
theorem dX5_remember_6 : decode cX5_remember 6 = .ok (.if_icmp .ne 71, 3) := dk_160 0 71 (dk_at dksX5_remember_0 6 rfl rfl)
theorem dX5_remember_9 : decode cX5_remember 9 = .ok (.iconst 0, 1) := dk_3 (dk_at dksX5_remember_0 9 rfl rfl)
theorem dX5_remember_10 : decode cX5_remember 10 = .ok (.istore_n 2, 1) := dk_61 (dk_at dksX5_remember_0 10 rfl rfl)
theorem dX5_remember_11 : decode cX5_remember 11 = .ok (.iload_n 2, 1) := dk_28 (dk_at dksX5_remember_0 11 rfl rfl)
theorem dX5_remember_12 : decode cX5_remember 12 = .ok (.sipush 375, 3) := dk_17 1 119 (dk_at dksX5_remember_0 12 rfl rfl)
theorem dX5_remember_15 : decode cX5_remember 15 = .ok (.if_icmp .ge 24, 3) := dk_162 0 24 (dk_at dksX5_remember_0 15 rfl rfl)
theorem dX5_remember_18 : decode cX5_remember 18 = .ok (.aload_n 0, 1) := dk_42 (dk_at dksX5_remember_0 18 rfl rfl)
theorem dX5_remember_19 : decode cX5_remember 19 = .ok (.getfield 23, 3) := dk_180 0 23 (dk_at dksX5_remember_0 19 rfl rfl)
theorem dX5_remember_22 : decode cX5_remember 22 = .ok (.iload_n 2, 1) := dk_28 (dk_at dksX5_remember_0 22 rfl rfl)
theorem dX5_remember_23 : decode cX5_remember 23 = .ok (.aload_n 0, 1) := dk_42 (dk_at dksX5_remember_0 23 rfl rfl)
theorem dX5_remember_24 : decode cX5_remember 24 = .ok (.getfield 23, 3) := dk_180 0 23 (dk_at dksX5_remember_1 0 rfl rfl)
theorem dX5_remember_27 : decode cX5_remember 27 = .ok (.iload_n 2, 1) := dk_28 (dk_at dksX5_remember_1 3 rfl rfl)
theorem dX5_remember_28 : decode cX5_remember 28 = .ok (.bipush 25, 2) := dk_16 25 (dk_at dksX5_remember_1 4 rfl rfl)
theorem dX5_remember_30 : decode cX5_remember 30 = .ok (.iadd, 1) := dk_96 (dk_at dksX5_remember_1 6 rfl rfl)
theorem dX5_remember_31 : decode cX5_remember 31 = .ok (.iaload, 1) := dk_46 (dk_at dksX5_remember_1 7 rfl rfl)
theorem dX5_remember_32 : decode cX5_remember 32 = .ok (.iastore, 1) := dk_79 (dk_at dksX5_remember_1 8 rfl rfl)
theorem dX5_remember_33 : decode cX5_remember 33 = .ok (.iinc 2 1, 3) := dk_132 2 1 (dk_at dksX5_remember_1 9 rfl rfl)
theorem dX5_remember_36 : decode cX5_remember 36 = .ok (.goto (-25), 3) := dk_167 255 231 (dk_at dksX5_remember_1 12 rfl rfl)
theorem dX5_remember_39 : decode cX5_remember 39 = .ok (.iconst 0, 1) := dk_3 (dk_at dksX5_remember_1 15 rfl rfl)
theorem dX5_remember_40 : decode cX5_remember 40 = .ok (.istore_n 2, 1) := dk_61 (dk_at dksX5_remember_1 16 rfl rfl)
theorem dX5_remember_41 : decode cX5_remember 41 = .ok (.iload_n 2, 1) := dk_28 (dk_at dksX5_remember_1 17 rfl rfl)
theorem dX5_remember_42 : decode cX5_remember 42 = .ok (.bipush 15, 2) := dk_16 15 (dk_at dksX5_remember_1 18 rfl rfl)
theorem dX5_remember_44 : decode cX5_remember 44 = .ok (.if_icmp .ge 23, 3) := dk_162 0 23 (dk_at dksX5_remember_1 20 rfl rfl)
theorem dX5_remember_47 : decode cX5_remember 47 = .ok (.aload_n 0, 1) := dk_42 (dk_at dksX5_remember_1 23 rfl rfl)
theorem dX5_remember_48 : decode cX5_remember 48 = .ok (.getfield 26, 3) := dk_180 0 26 (dk_at dksX5_remember_2 0 rfl rfl)
theorem dX5_remember_51 : decode cX5_remember 51 = .ok (.iload_n 2, 1) := dk_28 (dk_at dksX5_remember_2 3 rfl rfl)
theorem dX5_remember_52 : decode cX5_remember 52 = .ok (.aload_n 0, 1) := dk_42 (dk_at dksX5_remember_2 4 rfl rfl)
theorem dX5_remember_53 : decode cX5_remember 53 = .ok (.getfield 26, 3) := dk_180 0 26 (dk_at dksX5_remember_2 5 rfl rfl)
theorem dX5_remember_56 : decode cX5_remember 56 = .ok (.iload_n 2, 1) := dk_28 (dk_at dksX5_remember_2 8 rfl rfl)
theorem dX5_remember_57 : decode cX5_remember 57 = .ok (.iconst 1, 1) := dk_4 (dk_at dksX5_remember_2 9 rfl rfl)
theorem dX5_remember_58 : decode cX5_remember 58 = .ok (.iadd, 1) := dk_96 (dk_at dksX5_remember_2 10 rfl rfl)
theorem dX5_remember_59 : decode cX5_remember 59 = .ok (.iaload, 1) := dk_46 (dk_at dksX5_remember_2 11 rfl rfl)
theorem dX5_remember_60 : decode cX5_remember 60 = .ok (.iastore, 1) := dk_79 (dk_at dksX5_remember_2 12 rfl rfl)
theorem dX5_remember_61 : decode cX5_remember 61 = .ok (.iinc 2 1, 3) := dk_132 2 1 (dk_at dksX5_remember_2 13 rfl rfl)
theorem dX5_remember_64 : decode cX5_remember 64 = .ok (.goto (-23), 3) := dk_167 255 233 (dk_at dksX5_remember_2 16 rfl rfl)
theorem dX5_remember_67 : decode cX5_remember 67 = .ok (.aload_n 0, 1) := dk_42 (dk_at dksX5_remember_2 19 rfl rfl)
theorem dX5_remember_68 : decode cX5_remember 68 = .ok (.dup, 1) := dk_89 (dk_at dksX5_remember_2 20 rfl rfl)
theorem dX5_remember_69 : decode cX5_remember 69 = .ok (.getfield 148, 3) := dk_180 0 148 (dk_at dksX5_remember_2 21 rfl rfl)
theorem dX5_remember_72 : decode cX5_remember 72 = .ok (.iconst 1, 1) := dk_4 (dk_at dksX5_remember_3 0 rfl rfl)
theorem dX5_remember_73 : decode cX5_remember 73 = .ok (.isub, 1) := dk_100 (dk_at dksX5_remember_3 1 rfl rfl)
theorem dX5_remember_74 : decode cX5_remember 74 = .ok (.putfield 148, 3) := dk_181 0 148 (dk_at dksX5_remember_3 2 rfl rfl)
theorem dX5_remember_77 : decode cX5_remember 77 = .ok (.aload_n 0, 1) := dk_42 (dk_at dksX5_remember_3 5 rfl rfl)
theorem dX5_remember_78 : decode cX5_remember 78 = .ok (.aload_n 0, 1) := dk_42 (dk_at dksX5_remember_3 6 rfl rfl)
theorem dX5_remember_79 : decode cX5_remember 79 = .ok (.getfield 148, 3) := dk_180 0 148 (dk_at dksX5_remember_3 7 rfl rfl)
theorem dX5_remember_82 : decode cX5_remember 82 = .ok (.invokevirtual 151, 3) := dk_182 0 151 (dk_at dksX5_remember_3 10 rfl rfl)
theorem dX5_remember_85 : decode cX5_remember 85 = .ok (.aload_n 0, 1) := dk_42 (dk_at dksX5_remember_3 13 rfl rfl)
theorem dX5_remember_86 : decode cX5_remember 86 = .ok (.getfield 26, 3) := dk_180 0 26 (dk_at dksX5_remember_3 14 rfl rfl)
theorem dX5_remember_89 : decode cX5_remember 89 = .ok (.aload_n 0, 1) := dk_42 (dk_at dksX5_remember_3 17 rfl rfl)
theorem dX5_remember_90 : decode cX5_remember 90 = .ok (.getfield 148, 3) := dk_180 0 148 (dk_at dksX5_remember_3 18 rfl rfl)
theorem dX5_remember_93 : decode cX5_remember 93 = .ok (.iload_n 1, 1) := dk_27 (dk_at dksX5_remember_3 21 rfl rfl)
theorem dX5_remember_94 : decode cX5_remember 94 = .ok (.iastore, 1) := dk_79 (dk_at dksX5_remember_3 22 rfl rfl)
theorem dX5_remember_95 : decode cX5_remember 95 = .ok (.aload_n 0, 1) := dk_42 (dk_at dksX5_remember_3 23 rfl rfl)
theorem dX5_remember_96 : decode cX5_remember 96 = .ok (.dup, 1) := dk_89 (dk_at dksX5_remember_4 0 rfl rfl)
theorem dX5_remember_97 : decode cX5_remember 97 = .ok (.getfield 148, 3) := dk_180 0 148 (dk_at dksX5_remember_4 1 rfl rfl)
theorem dX5_remember_100 : decode cX5_remember 100 = .ok (.iconst 1, 1) := dk_4 (dk_at dksX5_remember_4 4 rfl rfl)
theorem dX5_remember_101 : decode cX5_remember 101 = .ok (.iadd, 1) := dk_96 (dk_at dksX5_remember_4 5 rfl rfl)
theorem dX5_remember_102 : decode cX5_remember 102 = .ok (.putfield 148, 3) := dk_181 0 148 (dk_at dksX5_remember_4 6 rfl rfl)
theorem dX5_remember_105 : decode cX5_remember 105 = .ok (.return_, 1) := dk_177 (dk_at dksX5_remember_4 9 rfl rfl)
abbrev cX5_keepAll : ByteArray := prog_22_method_9_code
def yX5_keepAll : MethodName := ⟨RX5, "keepAll", "(I)V"⟩
def dkwX5_keepAll_1 : List UInt8 := [28, 96, 46, 79, 132, 2, 1, 167, 255, 227, 177]
abbrev dktX5_keepAll_1 : List UInt8 := dkwX5_keepAll_1 ++ []
def dkwX5_keepAll_0 : List UInt8 := [3, 61, 28, 16, 25, 162, 0, 29, 42, 180, 0, 23, 16, 25, 27, 104, 28, 96, 42, 180, 0, 13, 16, 6]
abbrev dktX5_keepAll_0 : List UInt8 := dkwX5_keepAll_0 ++ dktX5_keepAll_1
theorem dksX5_keepAll_0 : cX5_keepAll.data.toList.drop 0 = dktX5_keepAll_0 := by decide +kernel
theorem dksX5_keepAll_1 : cX5_keepAll.data.toList.drop 24 = dktX5_keepAll_1 := dk_seg dksX5_keepAll_0 24 rfl rfl
theorem dX5_keepAll_0 : decode cX5_keepAll 0 = .ok (.iconst 0, 1) := dk_3 (dk_at dksX5_keepAll_0 0 rfl rfl)
theorem dX5_keepAll_1 : decode cX5_keepAll 1 = .ok (.istore_n 2, 1) := dk_61 (dk_at dksX5_keepAll_0 1 rfl rfl)
theorem dX5_keepAll_2 : decode cX5_keepAll 2 = .ok (.iload_n 2, 1) := dk_28 (dk_at dksX5_keepAll_0 2 rfl rfl)
theorem dX5_keepAll_3 : decode cX5_keepAll 3 = .ok (.bipush 25, 2) := dk_16 25 (dk_at dksX5_keepAll_0 3 rfl rfl)
theorem dX5_keepAll_5 : decode cX5_keepAll 5 = .ok (.if_icmp .ge 29, 3) := dk_162 0 29 (dk_at dksX5_keepAll_0 5 rfl rfl)
theorem dX5_keepAll_8 : decode cX5_keepAll 8 = .ok (.aload_n 0, 1) := dk_42 (dk_at dksX5_keepAll_0 8 rfl rfl)
theorem dX5_keepAll_9 : decode cX5_keepAll 9 = .ok (.getfield 23, 3) := dk_180 0 23 (dk_at dksX5_keepAll_0 9 rfl rfl)
theorem dX5_keepAll_12 : decode cX5_keepAll 12 = .ok (.bipush 25, 2) := dk_16 25 (dk_at dksX5_keepAll_0 12 rfl rfl)
theorem dX5_keepAll_14 : decode cX5_keepAll 14 = .ok (.iload_n 1, 1) := dk_27 (dk_at dksX5_keepAll_0 14 rfl rfl)
theorem dX5_keepAll_15 : decode cX5_keepAll 15 = .ok (.imul, 1) := dk_104 (dk_at dksX5_keepAll_0 15 rfl rfl)
theorem dX5_keepAll_16 : decode cX5_keepAll 16 = .ok (.iload_n 2, 1) := dk_28 (dk_at dksX5_keepAll_0 16 rfl rfl)
theorem dX5_keepAll_17 : decode cX5_keepAll 17 = .ok (.iadd, 1) := dk_96 (dk_at dksX5_keepAll_0 17 rfl rfl)
theorem dX5_keepAll_18 : decode cX5_keepAll 18 = .ok (.aload_n 0, 1) := dk_42 (dk_at dksX5_keepAll_0 18 rfl rfl)
theorem dX5_keepAll_19 : decode cX5_keepAll 19 = .ok (.getfield 13, 3) := dk_180 0 13 (dk_at dksX5_keepAll_0 19 rfl rfl)
theorem dX5_keepAll_22 : decode cX5_keepAll 22 = .ok (.bipush 6, 2) := dk_16 6 (dk_at dksX5_keepAll_0 22 rfl rfl)
theorem dX5_keepAll_24 : decode cX5_keepAll 24 = .ok (.iload_n 2, 1) := dk_28 (dk_at dksX5_keepAll_1 0 rfl rfl)
theorem dX5_keepAll_25 : decode cX5_keepAll 25 = .ok (.iadd, 1) := dk_96 (dk_at dksX5_keepAll_1 1 rfl rfl)
theorem dX5_keepAll_26 : decode cX5_keepAll 26 = .ok (.iaload, 1) := dk_46 (dk_at dksX5_keepAll_1 2 rfl rfl)
theorem dX5_keepAll_27 : decode cX5_keepAll 27 = .ok (.iastore, 1) := dk_79 (dk_at dksX5_keepAll_1 3 rfl rfl)
theorem dX5_keepAll_28 : decode cX5_keepAll 28 = .ok (.iinc 2 1, 3) := dk_132 2 1 (dk_at dksX5_keepAll_1 4 rfl rfl)
theorem dX5_keepAll_31 : decode cX5_keepAll 31 = .ok (.goto (-29), 3) := dk_167 255 227 (dk_at dksX5_keepAll_1 7 rfl rfl)
theorem dX5_keepAll_34 : decode cX5_keepAll 34 = .ok (.return_, 1) := dk_177 (dk_at dksX5_keepAll_1 10 rfl rfl)
abbrev cX5_hide : ByteArray := prog_22_method_74_code
def yX5_hide : MethodName := ⟨RX5, "hide", "(II)I"⟩
def dkwX5_hide_0 : List UInt8 := [42, 3, 181, 0, 142, 42, 42, 27, 28, 182, 1, 173, 182, 0, 155, 172]
abbrev dktX5_hide_0 : List UInt8 := dkwX5_hide_0 ++ []
theorem dksX5_hide_0 : cX5_hide.data.toList.drop 0 = dktX5_hide_0 := by decide +kernel
theorem dX5_hide_0 : decode cX5_hide 0 = .ok (.aload_n 0, 1) := dk_42 (dk_at dksX5_hide_0 0 rfl rfl)
theorem dX5_hide_1 : decode cX5_hide 1 = .ok (.iconst 0, 1) := dk_3 (dk_at dksX5_hide_0 1 rfl rfl)
theorem dX5_hide_2 : decode cX5_hide 2 = .ok (.putfield 142, 3) := dk_181 0 142 (dk_at dksX5_hide_0 2 rfl rfl)
theorem dX5_hide_5 : decode cX5_hide 5 = .ok (.aload_n 0, 1) := dk_42 (dk_at dksX5_hide_0 5 rfl rfl)
theorem dX5_hide_6 : decode cX5_hide 6 = .ok (.aload_n 0, 1) := dk_42 (dk_at dksX5_hide_0 6 rfl rfl)
theorem dX5_hide_7 : decode cX5_hide 7 = .ok (.iload_n 1, 1) := dk_27 (dk_at dksX5_hide_0 7 rfl rfl)
theorem dX5_hide_8 : decode cX5_hide 8 = .ok (.iload_n 2, 1) := dk_28 (dk_at dksX5_hide_0 8 rfl rfl)
theorem dX5_hide_9 : decode cX5_hide 9 = .ok (.invokevirtual 429, 3) := dk_182 1 173 (dk_at dksX5_hide_0 9 rfl rfl)
theorem dX5_hide_12 : decode cX5_hide 12 = .ok (.invokevirtual 155, 3) := dk_182 0 155 (dk_at dksX5_hide_0 12 rfl rfl)
theorem dX5_hide_15 : decode cX5_hide 15 = .ok (.ireturn, 1) := dk_172 (dk_at dksX5_hide_0 15 rfl rfl)
abbrev cX5_hideNow : ByteArray := prog_22_method_73_code
def yX5_hideNow : MethodName := ⟨RX5, "hideNow", "(II)I"⟩
def dkwX5_hideNow_3 : List UInt8 := [100, 79, 42, 180, 0, 13, 16, 19, 27, 96, 46, 172]
abbrev dktX5_hideNow_3 : List UInt8 := dkwX5_hideNow_3 ++ []
def dkwX5_hideNow_2 : List UInt8 := [154, 0, 6, 16, 253, 172, 42, 4, 182, 1, 167, 42, 180, 0, 13, 16, 19, 27, 96, 92, 46, 4, 28, 120]
abbrev dktX5_hideNow_2 : List UInt8 := dkwX5_hideNow_2 ++ dktX5_hideNow_3
def dkwX5_hideNow_1 : List UInt8 := [16, 25, 27, 96, 46, 4, 159, 0, 19, 42, 180, 0, 13, 16, 19, 27, 96, 46, 28, 184, 0, 170]
abbrev dktX5_hideNow_1 : List UInt8 := dkwX5_hideNow_1 ++ dktX5_hideNow_2
def dkwX5_hideNow_0 : List UInt8 := [28, 184, 0, 199, 154, 0, 5, 2, 172, 42, 27, 182, 0, 195, 154, 0, 6, 16, 254, 172, 42, 180, 0, 13]
abbrev dktX5_hideNow_0 : List UInt8 := dkwX5_hideNow_0 ++ dktX5_hideNow_1
theorem dksX5_hideNow_0 : cX5_hideNow.data.toList.drop 0 = dktX5_hideNow_0 := by decide +kernel
theorem dksX5_hideNow_1 : cX5_hideNow.data.toList.drop 24 = dktX5_hideNow_1 := dk_seg dksX5_hideNow_0 24 rfl rfl
theorem dksX5_hideNow_2 : cX5_hideNow.data.toList.drop 46 = dktX5_hideNow_2 := dk_seg dksX5_hideNow_1 22 rfl rfl
theorem dksX5_hideNow_3 : cX5_hideNow.data.toList.drop 70 = dktX5_hideNow_3 := dk_seg dksX5_hideNow_2 24 rfl rfl
theorem dX5_hideNow_0 : decode cX5_hideNow 0 = .ok (.iload_n 2, 1) := dk_28 (dk_at dksX5_hideNow_0 0 rfl rfl)
theorem dX5_hideNow_1 : decode cX5_hideNow 1 = .ok (.invokestatic 199, 3) := dk_184 0 199 (dk_at dksX5_hideNow_0 1 rfl rfl)
theorem dX5_hideNow_4 : decode cX5_hideNow 4 = .ok (.ifCond .ne 5, 3) := dk_154 0 5 (dk_at dksX5_hideNow_0 4 rfl rfl)
theorem dX5_hideNow_7 : decode cX5_hideNow 7 = .ok (.iconst (-1), 1) := dk_2 (dk_at dksX5_hideNow_0 7 rfl rfl)
theorem dX5_hideNow_8 : decode cX5_hideNow 8 = .ok (.ireturn, 1) := dk_172 (dk_at dksX5_hideNow_0 8 rfl rfl)
theorem dX5_hideNow_9 : decode cX5_hideNow 9 = .ok (.aload_n 0, 1) := dk_42 (dk_at dksX5_hideNow_0 9 rfl rfl)
theorem dX5_hideNow_10 : decode cX5_hideNow 10 = .ok (.iload_n 1, 1) := dk_27 (dk_at dksX5_hideNow_0 10 rfl rfl)
theorem dX5_hideNow_11 : decode cX5_hideNow 11 = .ok (.invokevirtual 195, 3) := dk_182 0 195 (dk_at dksX5_hideNow_0 11 rfl rfl)
theorem dX5_hideNow_14 : decode cX5_hideNow 14 = .ok (.ifCond .ne 6, 3) := dk_154 0 6 (dk_at dksX5_hideNow_0 14 rfl rfl)
theorem dX5_hideNow_17 : decode cX5_hideNow 17 = .ok (.bipush (-2), 2) := dk_16 254 (dk_at dksX5_hideNow_0 17 rfl rfl)
theorem dX5_hideNow_19 : decode cX5_hideNow 19 = .ok (.ireturn, 1) := dk_172 (dk_at dksX5_hideNow_0 19 rfl rfl)
theorem dX5_hideNow_20 : decode cX5_hideNow 20 = .ok (.aload_n 0, 1) := dk_42 (dk_at dksX5_hideNow_0 20 rfl rfl)
theorem dX5_hideNow_21 : decode cX5_hideNow 21 = .ok (.getfield 13, 3) := dk_180 0 13 (dk_at dksX5_hideNow_0 21 rfl rfl)
theorem dX5_hideNow_24 : decode cX5_hideNow 24 = .ok (.bipush 25, 2) := dk_16 25 (dk_at dksX5_hideNow_1 0 rfl rfl)
theorem dX5_hideNow_26 : decode cX5_hideNow 26 = .ok (.iload_n 1, 1) := dk_27 (dk_at dksX5_hideNow_1 2 rfl rfl)
theorem dX5_hideNow_27 : decode cX5_hideNow 27 = .ok (.iadd, 1) := dk_96 (dk_at dksX5_hideNow_1 3 rfl rfl)
theorem dX5_hideNow_28 : decode cX5_hideNow 28 = .ok (.iaload, 1) := dk_46 (dk_at dksX5_hideNow_1 4 rfl rfl)
theorem dX5_hideNow_29 : decode cX5_hideNow 29 = .ok (.iconst 1, 1) := dk_4 (dk_at dksX5_hideNow_1 5 rfl rfl)
theorem dX5_hideNow_30 : decode cX5_hideNow 30 = .ok (.if_icmp .eq 19, 3) := dk_159 0 19 (dk_at dksX5_hideNow_1 6 rfl rfl)
theorem dX5_hideNow_33 : decode cX5_hideNow 33 = .ok (.aload_n 0, 1) := dk_42 (dk_at dksX5_hideNow_1 9 rfl rfl)
theorem dX5_hideNow_34 : decode cX5_hideNow 34 = .ok (.getfield 13, 3) := dk_180 0 13 (dk_at dksX5_hideNow_1 10 rfl rfl)
theorem dX5_hideNow_37 : decode cX5_hideNow 37 = .ok (.bipush 19, 2) := dk_16 19 (dk_at dksX5_hideNow_1 13 rfl rfl)
theorem dX5_hideNow_39 : decode cX5_hideNow 39 = .ok (.iload_n 1, 1) := dk_27 (dk_at dksX5_hideNow_1 15 rfl rfl)
theorem dX5_hideNow_40 : decode cX5_hideNow 40 = .ok (.iadd, 1) := dk_96 (dk_at dksX5_hideNow_1 16 rfl rfl)
theorem dX5_hideNow_41 : decode cX5_hideNow 41 = .ok (.iaload, 1) := dk_46 (dk_at dksX5_hideNow_1 17 rfl rfl)
theorem dX5_hideNow_42 : decode cX5_hideNow 42 = .ok (.iload_n 2, 1) := dk_28 (dk_at dksX5_hideNow_1 18 rfl rfl)
theorem dX5_hideNow_43 : decode cX5_hideNow 43 = .ok (.invokestatic 170, 3) := dk_184 0 170 (dk_at dksX5_hideNow_1 19 rfl rfl)
theorem dX5_hideNow_46 : decode cX5_hideNow 46 = .ok (.ifCond .ne 6, 3) := dk_154 0 6 (dk_at dksX5_hideNow_2 0 rfl rfl)
theorem dX5_hideNow_49 : decode cX5_hideNow 49 = .ok (.bipush (-3), 2) := dk_16 253 (dk_at dksX5_hideNow_2 3 rfl rfl)
theorem dX5_hideNow_51 : decode cX5_hideNow 51 = .ok (.ireturn, 1) := dk_172 (dk_at dksX5_hideNow_2 5 rfl rfl)
theorem dX5_hideNow_52 : decode cX5_hideNow 52 = .ok (.aload_n 0, 1) := dk_42 (dk_at dksX5_hideNow_2 6 rfl rfl)
theorem dX5_hideNow_53 : decode cX5_hideNow 53 = .ok (.iconst 1, 1) := dk_4 (dk_at dksX5_hideNow_2 7 rfl rfl)
theorem dX5_hideNow_54 : decode cX5_hideNow 54 = .ok (.invokevirtual 423, 3) := dk_182 1 167 (dk_at dksX5_hideNow_2 8 rfl rfl)
theorem dX5_hideNow_57 : decode cX5_hideNow 57 = .ok (.aload_n 0, 1) := dk_42 (dk_at dksX5_hideNow_2 11 rfl rfl)
theorem dX5_hideNow_58 : decode cX5_hideNow 58 = .ok (.getfield 13, 3) := dk_180 0 13 (dk_at dksX5_hideNow_2 12 rfl rfl)
theorem dX5_hideNow_61 : decode cX5_hideNow 61 = .ok (.bipush 19, 2) := dk_16 19 (dk_at dksX5_hideNow_2 15 rfl rfl)
theorem dX5_hideNow_63 : decode cX5_hideNow 63 = .ok (.iload_n 1, 1) := dk_27 (dk_at dksX5_hideNow_2 17 rfl rfl)
theorem dX5_hideNow_64 : decode cX5_hideNow 64 = .ok (.iadd, 1) := dk_96 (dk_at dksX5_hideNow_2 18 rfl rfl)
theorem dX5_hideNow_65 : decode cX5_hideNow 65 = .ok (.dup2, 1) := dk_92 (dk_at dksX5_hideNow_2 19 rfl rfl)
theorem dX5_hideNow_66 : decode cX5_hideNow 66 = .ok (.iaload, 1) := dk_46 (dk_at dksX5_hideNow_2 20 rfl rfl)
theorem dX5_hideNow_67 : decode cX5_hideNow 67 = .ok (.iconst 1, 1) := dk_4 (dk_at dksX5_hideNow_2 21 rfl rfl)
theorem dX5_hideNow_68 : decode cX5_hideNow 68 = .ok (.iload_n 2, 1) := dk_28 (dk_at dksX5_hideNow_2 22 rfl rfl)
theorem dX5_hideNow_69 : decode cX5_hideNow 69 = .ok (.ishl, 1) := dk_120 (dk_at dksX5_hideNow_2 23 rfl rfl)
theorem dX5_hideNow_70 : decode cX5_hideNow 70 = .ok (.isub, 1) := dk_100 (dk_at dksX5_hideNow_3 0 rfl rfl)
theorem dX5_hideNow_71 : decode cX5_hideNow 71 = .ok (.iastore, 1) := dk_79 (dk_at dksX5_hideNow_3 1 rfl rfl)
theorem dX5_hideNow_72 : decode cX5_hideNow 72 = .ok (.aload_n 0, 1) := dk_42 (dk_at dksX5_hideNow_3 2 rfl rfl)
theorem dX5_hideNow_73 : decode cX5_hideNow 73 = .ok (.getfield 13, 3) := dk_180 0 13 (dk_at dksX5_hideNow_3 3 rfl rfl)
theorem dX5_hideNow_76 : decode cX5_hideNow 76 = .ok (.bipush 19, 2) := dk_16 19 (dk_at dksX5_hideNow_3 6 rfl rfl)
theorem dX5_hideNow_78 : decode cX5_hideNow 78 = .ok (.iload_n 1, 1) := dk_27 (dk_at dksX5_hideNow_3 8 rfl rfl)
theorem dX5_hideNow_79 : decode cX5_hideNow 79 = .ok (.iadd, 1) := dk_96 (dk_at dksX5_hideNow_3 9 rfl rfl)
theorem dX5_hideNow_80 : decode cX5_hideNow 80 = .ok (.iaload, 1) := dk_46 (dk_at dksX5_hideNow_3 10 rfl rfl)
theorem dX5_hideNow_81 : decode cX5_hideNow 81 = .ok (.ireturn, 1) := dk_172 (dk_at dksX5_hideNow_3 11 rfl rfl)
abbrev cX5_man : ByteArray := prog_22_method_76_code
def yX5_man : MethodName := ⟨RX5, "man", "(II)I"⟩
def dkwX5_man_0 : List UInt8 := [42, 3, 181, 0, 142, 42, 42, 27, 28, 182, 1, 178, 182, 0, 155, 172]
abbrev dktX5_man_0 : List UInt8 := dkwX5_man_0 ++ []
theorem dksX5_man_0 : cX5_man.data.toList.drop 0 = dktX5_man_0 := by decide +kernel
theorem dX5_man_0 : decode cX5_man 0 = .ok (.aload_n 0, 1) := dk_42 (dk_at dksX5_man_0 0 rfl rfl)
theorem dX5_man_1 : decode cX5_man 1 = .ok (.iconst 0, 1) := dk_3 (dk_at dksX5_man_0 1 rfl rfl)
theorem dX5_man_2 : decode cX5_man 2 = .ok (.putfield 142, 3) := dk_181 0 142 (dk_at dksX5_man_0 2 rfl rfl)
theorem dX5_man_5 : decode cX5_man 5 = .ok (.aload_n 0, 1) := dk_42 (dk_at dksX5_man_0 5 rfl rfl)
theorem dX5_man_6 : decode cX5_man 6 = .ok (.aload_n 0, 1) := dk_42 (dk_at dksX5_man_0 6 rfl rfl)
theorem dX5_man_7 : decode cX5_man 7 = .ok (.iload_n 1, 1) := dk_27 (dk_at dksX5_man_0 7 rfl rfl)
theorem dX5_man_8 : decode cX5_man 8 = .ok (.iload_n 2, 1) := dk_28 (dk_at dksX5_man_0 8 rfl rfl)
theorem dX5_man_9 : decode cX5_man 9 = .ok (.invokevirtual 434, 3) := dk_182 1 178 (dk_at dksX5_man_0 9 rfl rfl)
theorem dX5_man_12 : decode cX5_man 12 = .ok (.invokevirtual 155, 3) := dk_182 0 155 (dk_at dksX5_man_0 12 rfl rfl)
theorem dX5_man_15 : decode cX5_man 15 = .ok (.ireturn, 1) := dk_172 (dk_at dksX5_man_0 15 rfl rfl)
abbrev cX5_manNow : ByteArray := prog_22_method_75_code
def yX5_manNow : MethodName := ⟨RX5, "manNow", "(II)I"⟩
def dkwX5_manNow_3 : List UInt8 := [180, 0, 13, 16, 13, 27, 96, 92, 46, 28, 96, 79, 42, 180, 0, 13, 16, 13, 27, 96, 46, 172]
abbrev dktX5_manNow_3 : List UInt8 := dkwX5_manNow_3 ++ []
def dkwX5_manNow_2 : List UInt8 := [46, 28, 96, 133, 9, 20, 0, 187, 184, 0, 162, 154, 0, 6, 16, 253, 172, 42, 5, 182, 1, 167, 42]
abbrev dktX5_manNow_2 : List UInt8 := dkwX5_manNow_2 ++ dktX5_manNow_3
def dkwX5_manNow_1 : List UInt8 := [16, 254, 172, 42, 180, 0, 13, 16, 25, 27, 96, 46, 4, 159, 0, 25, 42, 180, 0, 13, 16, 13, 27, 96]
abbrev dktX5_manNow_1 : List UInt8 := dkwX5_manNow_1 ++ dktX5_manNow_2
def dkwX5_manNow_0 : List UInt8 := [28, 133, 20, 1, 176, 20, 0, 187, 184, 0, 162, 154, 0, 5, 2, 172, 42, 27, 182, 0, 195, 154, 0, 6]
abbrev dktX5_manNow_0 : List UInt8 := dkwX5_manNow_0 ++ dktX5_manNow_1
theorem dksX5_manNow_0 : cX5_manNow.data.toList.drop 0 = dktX5_manNow_0 := by decide +kernel
theorem dksX5_manNow_1 : cX5_manNow.data.toList.drop 24 = dktX5_manNow_1 := dk_seg dksX5_manNow_0 24 rfl rfl
theorem dksX5_manNow_2 : cX5_manNow.data.toList.drop 48 = dktX5_manNow_2 := dk_seg dksX5_manNow_1 24 rfl rfl
theorem dksX5_manNow_3 : cX5_manNow.data.toList.drop 71 = dktX5_manNow_3 := dk_seg dksX5_manNow_2 23 rfl rfl
theorem dX5_manNow_0 : decode cX5_manNow 0 = .ok (.iload_n 2, 1) := dk_28 (dk_at dksX5_manNow_0 0 rfl rfl)
theorem dX5_manNow_1 : decode cX5_manNow 1 = .ok (.i2l, 1) := dk_133 (dk_at dksX5_manNow_0 1 rfl rfl)
theorem dX5_manNow_2 : decode cX5_manNow 2 = .ok (.ldc2_w 432, 3) := dk_20 1 176 (dk_at dksX5_manNow_0 2 rfl rfl)
theorem dX5_manNow_5 : decode cX5_manNow 5 = .ok (.ldc2_w 187, 3) := dk_20 0 187 (dk_at dksX5_manNow_0 5 rfl rfl)
theorem dX5_manNow_8 : decode cX5_manNow 8 = .ok (.invokestatic 162, 3) := dk_184 0 162 (dk_at dksX5_manNow_0 8 rfl rfl)
theorem dX5_manNow_11 : decode cX5_manNow 11 = .ok (.ifCond .ne 5, 3) := dk_154 0 5 (dk_at dksX5_manNow_0 11 rfl rfl)
theorem dX5_manNow_14 : decode cX5_manNow 14 = .ok (.iconst (-1), 1) := dk_2 (dk_at dksX5_manNow_0 14 rfl rfl)
theorem dX5_manNow_15 : decode cX5_manNow 15 = .ok (.ireturn, 1) := dk_172 (dk_at dksX5_manNow_0 15 rfl rfl)
theorem dX5_manNow_16 : decode cX5_manNow 16 = .ok (.aload_n 0, 1) := dk_42 (dk_at dksX5_manNow_0 16 rfl rfl)
theorem dX5_manNow_17 : decode cX5_manNow 17 = .ok (.iload_n 1, 1) := dk_27 (dk_at dksX5_manNow_0 17 rfl rfl)
theorem dX5_manNow_18 : decode cX5_manNow 18 = .ok (.invokevirtual 195, 3) := dk_182 0 195 (dk_at dksX5_manNow_0 18 rfl rfl)
theorem dX5_manNow_21 : decode cX5_manNow 21 = .ok (.ifCond .ne 6, 3) := dk_154 0 6 (dk_at dksX5_manNow_0 21 rfl rfl)
theorem dX5_manNow_24 : decode cX5_manNow 24 = .ok (.bipush (-2), 2) := dk_16 254 (dk_at dksX5_manNow_1 0 rfl rfl)
theorem dX5_manNow_26 : decode cX5_manNow 26 = .ok (.ireturn, 1) := dk_172 (dk_at dksX5_manNow_1 2 rfl rfl)
theorem dX5_manNow_27 : decode cX5_manNow 27 = .ok (.aload_n 0, 1) := dk_42 (dk_at dksX5_manNow_1 3 rfl rfl)
theorem dX5_manNow_28 : decode cX5_manNow 28 = .ok (.getfield 13, 3) := dk_180 0 13 (dk_at dksX5_manNow_1 4 rfl rfl)
theorem dX5_manNow_31 : decode cX5_manNow 31 = .ok (.bipush 25, 2) := dk_16 25 (dk_at dksX5_manNow_1 7 rfl rfl)
theorem dX5_manNow_33 : decode cX5_manNow 33 = .ok (.iload_n 1, 1) := dk_27 (dk_at dksX5_manNow_1 9 rfl rfl)
theorem dX5_manNow_34 : decode cX5_manNow 34 = .ok (.iadd, 1) := dk_96 (dk_at dksX5_manNow_1 10 rfl rfl)
theorem dX5_manNow_35 : decode cX5_manNow 35 = .ok (.iaload, 1) := dk_46 (dk_at dksX5_manNow_1 11 rfl rfl)
theorem dX5_manNow_36 : decode cX5_manNow 36 = .ok (.iconst 1, 1) := dk_4 (dk_at dksX5_manNow_1 12 rfl rfl)
theorem dX5_manNow_37 : decode cX5_manNow 37 = .ok (.if_icmp .eq 25, 3) := dk_159 0 25 (dk_at dksX5_manNow_1 13 rfl rfl)
theorem dX5_manNow_40 : decode cX5_manNow 40 = .ok (.aload_n 0, 1) := dk_42 (dk_at dksX5_manNow_1 16 rfl rfl)
theorem dX5_manNow_41 : decode cX5_manNow 41 = .ok (.getfield 13, 3) := dk_180 0 13 (dk_at dksX5_manNow_1 17 rfl rfl)
theorem dX5_manNow_44 : decode cX5_manNow 44 = .ok (.bipush 13, 2) := dk_16 13 (dk_at dksX5_manNow_1 20 rfl rfl)
theorem dX5_manNow_46 : decode cX5_manNow 46 = .ok (.iload_n 1, 1) := dk_27 (dk_at dksX5_manNow_1 22 rfl rfl)
theorem dX5_manNow_47 : decode cX5_manNow 47 = .ok (.iadd, 1) := dk_96 (dk_at dksX5_manNow_1 23 rfl rfl)
theorem dX5_manNow_48 : decode cX5_manNow 48 = .ok (.iaload, 1) := dk_46 (dk_at dksX5_manNow_2 0 rfl rfl)
theorem dX5_manNow_49 : decode cX5_manNow 49 = .ok (.iload_n 2, 1) := dk_28 (dk_at dksX5_manNow_2 1 rfl rfl)
theorem dX5_manNow_50 : decode cX5_manNow 50 = .ok (.iadd, 1) := dk_96 (dk_at dksX5_manNow_2 2 rfl rfl)
theorem dX5_manNow_51 : decode cX5_manNow 51 = .ok (.i2l, 1) := dk_133 (dk_at dksX5_manNow_2 3 rfl rfl)
theorem dX5_manNow_52 : decode cX5_manNow 52 = .ok (.lconst 0, 1) := dk_9 (dk_at dksX5_manNow_2 4 rfl rfl)
theorem dX5_manNow_53 : decode cX5_manNow 53 = .ok (.ldc2_w 187, 3) := dk_20 0 187 (dk_at dksX5_manNow_2 5 rfl rfl)
theorem dX5_manNow_56 : decode cX5_manNow 56 = .ok (.invokestatic 162, 3) := dk_184 0 162 (dk_at dksX5_manNow_2 8 rfl rfl)
theorem dX5_manNow_59 : decode cX5_manNow 59 = .ok (.ifCond .ne 6, 3) := dk_154 0 6 (dk_at dksX5_manNow_2 11 rfl rfl)
theorem dX5_manNow_62 : decode cX5_manNow 62 = .ok (.bipush (-3), 2) := dk_16 253 (dk_at dksX5_manNow_2 14 rfl rfl)
theorem dX5_manNow_64 : decode cX5_manNow 64 = .ok (.ireturn, 1) := dk_172 (dk_at dksX5_manNow_2 16 rfl rfl)
theorem dX5_manNow_65 : decode cX5_manNow 65 = .ok (.aload_n 0, 1) := dk_42 (dk_at dksX5_manNow_2 17 rfl rfl)
theorem dX5_manNow_66 : decode cX5_manNow 66 = .ok (.iconst 2, 1) := dk_5 (dk_at dksX5_manNow_2 18 rfl rfl)
theorem dX5_manNow_67 : decode cX5_manNow 67 = .ok (.invokevirtual 423, 3) := dk_182 1 167 (dk_at dksX5_manNow_2 19 rfl rfl)
theorem dX5_manNow_70 : decode cX5_manNow 70 = .ok (.aload_n 0, 1) := dk_42 (dk_at dksX5_manNow_2 22 rfl rfl)
theorem dX5_manNow_71 : decode cX5_manNow 71 = .ok (.getfield 13, 3) := dk_180 0 13 (dk_at dksX5_manNow_3 0 rfl rfl)
theorem dX5_manNow_74 : decode cX5_manNow 74 = .ok (.bipush 13, 2) := dk_16 13 (dk_at dksX5_manNow_3 3 rfl rfl)
theorem dX5_manNow_76 : decode cX5_manNow 76 = .ok (.iload_n 1, 1) := dk_27 (dk_at dksX5_manNow_3 5 rfl rfl)
theorem dX5_manNow_77 : decode cX5_manNow 77 = .ok (.iadd, 1) := dk_96 (dk_at dksX5_manNow_3 6 rfl rfl)
theorem dX5_manNow_78 : decode cX5_manNow 78 = .ok (.dup2, 1) := dk_92 (dk_at dksX5_manNow_3 7 rfl rfl)
theorem dX5_manNow_79 : decode cX5_manNow 79 = .ok (.iaload, 1) := dk_46 (dk_at dksX5_manNow_3 8 rfl rfl)
theorem dX5_manNow_80 : decode cX5_manNow 80 = .ok (.iload_n 2, 1) := dk_28 (dk_at dksX5_manNow_3 9 rfl rfl)
theorem dX5_manNow_81 : decode cX5_manNow 81 = .ok (.iadd, 1) := dk_96 (dk_at dksX5_manNow_3 10 rfl rfl)
theorem dX5_manNow_82 : decode cX5_manNow 82 = .ok (.iastore, 1) := dk_79 (dk_at dksX5_manNow_3 11 rfl rfl)
theorem dX5_manNow_83 : decode cX5_manNow 83 = .ok (.aload_n 0, 1) := dk_42 (dk_at dksX5_manNow_3 12 rfl rfl)
theorem dX5_manNow_84 : decode cX5_manNow 84 = .ok (.getfield 13, 3) := dk_180 0 13 (dk_at dksX5_manNow_3 13 rfl rfl)
theorem dX5_manNow_87 : decode cX5_manNow 87 = .ok (.bipush 13, 2) := dk_16 13 (dk_at dksX5_manNow_3 16 rfl rfl)
theorem dX5_manNow_89 : decode cX5_manNow 89 = .ok (.iload_n 1, 1) := dk_27 (dk_at dksX5_manNow_3 18 rfl rfl)
theorem dX5_manNow_90 : decode cX5_manNow 90 = .ok (.iadd, 1) := dk_96 (dk_at dksX5_manNow_3 19 rfl rfl)
theorem dX5_manNow_91 : decode cX5_manNow 91 = .ok (.iaload, 1) := dk_46 (dk_at dksX5_manNow_3 20 rfl rfl)
theorem dX5_manNow_92 : decode cX5_manNow 92 = .ok (.ireturn, 1) := dk_172 (dk_at dksX5_manNow_3 21 rfl rfl)
abbrev cX5_march : ByteArray := prog_22_method_80_code
def yX5_march : MethodName := ⟨RX5, "march", "(II)I"⟩
def dkwX5_march_0 : List UInt8 := [42, 3, 181, 0, 142, 42, 42, 27, 28, 182, 1, 187, 182, 0, 155, 172]
abbrev dktX5_march_0 : List UInt8 := dkwX5_march_0 ++ []
theorem dksX5_march_0 : cX5_march.data.toList.drop 0 = dktX5_march_0 := by decide +kernel
theorem dX5_march_0 : decode cX5_march 0 = .ok (.aload_n 0, 1) := dk_42 (dk_at dksX5_march_0 0 rfl rfl)
theorem dX5_march_1 : decode cX5_march 1 = .ok (.iconst 0, 1) := dk_3 (dk_at dksX5_march_0 1 rfl rfl)
theorem dX5_march_2 : decode cX5_march 2 = .ok (.putfield 142, 3) := dk_181 0 142 (dk_at dksX5_march_0 2 rfl rfl)
theorem dX5_march_5 : decode cX5_march 5 = .ok (.aload_n 0, 1) := dk_42 (dk_at dksX5_march_0 5 rfl rfl)
theorem dX5_march_6 : decode cX5_march 6 = .ok (.aload_n 0, 1) := dk_42 (dk_at dksX5_march_0 6 rfl rfl)
theorem dX5_march_7 : decode cX5_march 7 = .ok (.iload_n 1, 1) := dk_27 (dk_at dksX5_march_0 7 rfl rfl)
theorem dX5_march_8 : decode cX5_march 8 = .ok (.iload_n 2, 1) := dk_28 (dk_at dksX5_march_0 8 rfl rfl)
theorem dX5_march_9 : decode cX5_march 9 = .ok (.invokevirtual 443, 3) := dk_182 1 187 (dk_at dksX5_march_0 9 rfl rfl)
theorem dX5_march_12 : decode cX5_march 12 = .ok (.invokevirtual 155, 3) := dk_182 0 155 (dk_at dksX5_march_0 12 rfl rfl)
theorem dX5_march_15 : decode cX5_march 15 = .ok (.ireturn, 1) := dk_172 (dk_at dksX5_march_0 15 rfl rfl)
abbrev cX5_marchNow : ByteArray := prog_22_method_79_code
def yX5_marchNow : MethodName := ⟨RX5, "marchNow", "(II)I"⟩
def dkwX5_marchNow_1 : List UInt8 := [172, 42, 28, 182, 1, 181, 154, 0, 6, 16, 253, 172, 42, 6, 182, 1, 167, 42, 27, 28, 182, 1, 184, 172]
abbrev dktX5_marchNow_1 : List UInt8 := dkwX5_marchNow_1 ++ []
def dkwX5_marchNow_0 : List UInt8 := [27, 133, 10, 20, 0, 187, 184, 0, 162, 154, 0, 5, 2, 172, 42, 28, 182, 0, 195, 154, 0, 6, 16, 254]
abbrev dktX5_marchNow_0 : List UInt8 := dkwX5_marchNow_0 ++ dktX5_marchNow_1
theorem dksX5_marchNow_0 : cX5_marchNow.data.toList.drop 0 = dktX5_marchNow_0 := by decide +kernel
theorem dksX5_marchNow_1 : cX5_marchNow.data.toList.drop 24 = dktX5_marchNow_1 := dk_seg dksX5_marchNow_0 24 rfl rfl
theorem dX5_marchNow_0 : decode cX5_marchNow 0 = .ok (.iload_n 1, 1) := dk_27 (dk_at dksX5_marchNow_0 0 rfl rfl)
theorem dX5_marchNow_1 : decode cX5_marchNow 1 = .ok (.i2l, 1) := dk_133 (dk_at dksX5_marchNow_0 1 rfl rfl)
theorem dX5_marchNow_2 : decode cX5_marchNow 2 = .ok (.lconst 1, 1) := dk_10 (dk_at dksX5_marchNow_0 2 rfl rfl)
theorem dX5_marchNow_3 : decode cX5_marchNow 3 = .ok (.ldc2_w 187, 3) := dk_20 0 187 (dk_at dksX5_marchNow_0 3 rfl rfl)
theorem dX5_marchNow_6 : decode cX5_marchNow 6 = .ok (.invokestatic 162, 3) := dk_184 0 162 (dk_at dksX5_marchNow_0 6 rfl rfl)
theorem dX5_marchNow_9 : decode cX5_marchNow 9 = .ok (.ifCond .ne 5, 3) := dk_154 0 5 (dk_at dksX5_marchNow_0 9 rfl rfl)
theorem dX5_marchNow_12 : decode cX5_marchNow 12 = .ok (.iconst (-1), 1) := dk_2 (dk_at dksX5_marchNow_0 12 rfl rfl)
theorem dX5_marchNow_13 : decode cX5_marchNow 13 = .ok (.ireturn, 1) := dk_172 (dk_at dksX5_marchNow_0 13 rfl rfl)
theorem dX5_marchNow_14 : decode cX5_marchNow 14 = .ok (.aload_n 0, 1) := dk_42 (dk_at dksX5_marchNow_0 14 rfl rfl)
theorem dX5_marchNow_15 : decode cX5_marchNow 15 = .ok (.iload_n 2, 1) := dk_28 (dk_at dksX5_marchNow_0 15 rfl rfl)
theorem dX5_marchNow_16 : decode cX5_marchNow 16 = .ok (.invokevirtual 195, 3) := dk_182 0 195 (dk_at dksX5_marchNow_0 16 rfl rfl)
theorem dX5_marchNow_19 : decode cX5_marchNow 19 = .ok (.ifCond .ne 6, 3) := dk_154 0 6 (dk_at dksX5_marchNow_0 19 rfl rfl)
theorem dX5_marchNow_22 : decode cX5_marchNow 22 = .ok (.bipush (-2), 2) := dk_16 254 (dk_at dksX5_marchNow_0 22 rfl rfl)
theorem dX5_marchNow_24 : decode cX5_marchNow 24 = .ok (.ireturn, 1) := dk_172 (dk_at dksX5_marchNow_1 0 rfl rfl)
theorem dX5_marchNow_25 : decode cX5_marchNow 25 = .ok (.aload_n 0, 1) := dk_42 (dk_at dksX5_marchNow_1 1 rfl rfl)
theorem dX5_marchNow_26 : decode cX5_marchNow 26 = .ok (.iload_n 2, 1) := dk_28 (dk_at dksX5_marchNow_1 2 rfl rfl)
theorem dX5_marchNow_27 : decode cX5_marchNow 27 = .ok (.invokevirtual 437, 3) := dk_182 1 181 (dk_at dksX5_marchNow_1 3 rfl rfl)
theorem dX5_marchNow_30 : decode cX5_marchNow 30 = .ok (.ifCond .ne 6, 3) := dk_154 0 6 (dk_at dksX5_marchNow_1 6 rfl rfl)
theorem dX5_marchNow_33 : decode cX5_marchNow 33 = .ok (.bipush (-3), 2) := dk_16 253 (dk_at dksX5_marchNow_1 9 rfl rfl)
theorem dX5_marchNow_35 : decode cX5_marchNow 35 = .ok (.ireturn, 1) := dk_172 (dk_at dksX5_marchNow_1 11 rfl rfl)
theorem dX5_marchNow_36 : decode cX5_marchNow 36 = .ok (.aload_n 0, 1) := dk_42 (dk_at dksX5_marchNow_1 12 rfl rfl)
theorem dX5_marchNow_37 : decode cX5_marchNow 37 = .ok (.iconst 3, 1) := dk_6 (dk_at dksX5_marchNow_1 13 rfl rfl)
theorem dX5_marchNow_38 : decode cX5_marchNow 38 = .ok (.invokevirtual 423, 3) := dk_182 1 167 (dk_at dksX5_marchNow_1 14 rfl rfl)
theorem dX5_marchNow_41 : decode cX5_marchNow 41 = .ok (.aload_n 0, 1) := dk_42 (dk_at dksX5_marchNow_1 17 rfl rfl)
theorem dX5_marchNow_42 : decode cX5_marchNow 42 = .ok (.iload_n 1, 1) := dk_27 (dk_at dksX5_marchNow_1 18 rfl rfl)
theorem dX5_marchNow_43 : decode cX5_marchNow 43 = .ok (.iload_n 2, 1) := dk_28 (dk_at dksX5_marchNow_1 19 rfl rfl)
theorem dX5_marchNow_44 : decode cX5_marchNow 44 = .ok (.invokevirtual 440, 3) := dk_182 1 184 (dk_at dksX5_marchNow_1 20 rfl rfl)
theorem dX5_marchNow_47 : decode cX5_marchNow 47 = .ok (.ireturn, 1) := dk_172 (dk_at dksX5_marchNow_1 23 rfl rfl)
abbrev cX5_canMarch : ByteArray := prog_22_method_77_code
def yX5_canMarch : MethodName := ⟨RX5, "canMarch", "(I)Z"⟩
def dkwX5_canMarch_1 : List UInt8 := [162, 0, 7, 4, 167, 0, 4, 3, 172]
abbrev dktX5_canMarch_1 : List UInt8 := dkwX5_canMarch_1 ++ []
def dkwX5_canMarch_0 : List UInt8 := [42, 180, 0, 13, 16, 25, 27, 96, 46, 154, 0, 20, 42, 180, 0, 13, 16, 6, 46, 17, 3, 231]
abbrev dktX5_canMarch_0 : List UInt8 := dkwX5_canMarch_0 ++ dktX5_canMarch_1
theorem dksX5_canMarch_0 : cX5_canMarch.data.toList.drop 0 = dktX5_canMarch_0 := by decide +kernel
theorem dksX5_canMarch_1 : cX5_canMarch.data.toList.drop 22 = dktX5_canMarch_1 := dk_seg dksX5_canMarch_0 22 rfl rfl
theorem dX5_canMarch_0 : decode cX5_canMarch 0 = .ok (.aload_n 0, 1) := dk_42 (dk_at dksX5_canMarch_0 0 rfl rfl)
theorem dX5_canMarch_1 : decode cX5_canMarch 1 = .ok (.getfield 13, 3) := dk_180 0 13 (dk_at dksX5_canMarch_0 1 rfl rfl)
theorem dX5_canMarch_4 : decode cX5_canMarch 4 = .ok (.bipush 25, 2) := dk_16 25 (dk_at dksX5_canMarch_0 4 rfl rfl)
theorem dX5_canMarch_6 : decode cX5_canMarch 6 = .ok (.iload_n 1, 1) := dk_27 (dk_at dksX5_canMarch_0 6 rfl rfl)
theorem dX5_canMarch_7 : decode cX5_canMarch 7 = .ok (.iadd, 1) := dk_96 (dk_at dksX5_canMarch_0 7 rfl rfl)
theorem dX5_canMarch_8 : decode cX5_canMarch 8 = .ok (.iaload, 1) := dk_46 (dk_at dksX5_canMarch_0 8 rfl rfl)
theorem dX5_canMarch_9 : decode cX5_canMarch 9 = .ok (.ifCond .ne 20, 3) := dk_154 0 20 (dk_at dksX5_canMarch_0 9 rfl rfl)
theorem dX5_canMarch_12 : decode cX5_canMarch 12 = .ok (.aload_n 0, 1) := dk_42 (dk_at dksX5_canMarch_0 12 rfl rfl)
theorem dX5_canMarch_13 : decode cX5_canMarch 13 = .ok (.getfield 13, 3) := dk_180 0 13 (dk_at dksX5_canMarch_0 13 rfl rfl)
theorem dX5_canMarch_16 : decode cX5_canMarch 16 = .ok (.bipush 6, 2) := dk_16 6 (dk_at dksX5_canMarch_0 16 rfl rfl)
theorem dX5_canMarch_18 : decode cX5_canMarch 18 = .ok (.iaload, 1) := dk_46 (dk_at dksX5_canMarch_0 18 rfl rfl)
theorem dX5_canMarch_19 : decode cX5_canMarch 19 = .ok (.sipush 999, 3) := dk_17 3 231 (dk_at dksX5_canMarch_0 19 rfl rfl)
theorem dX5_canMarch_22 : decode cX5_canMarch 22 = .ok (.if_icmp .ge 7, 3) := dk_162 0 7 (dk_at dksX5_canMarch_1 0 rfl rfl)
theorem dX5_canMarch_25 : decode cX5_canMarch 25 = .ok (.iconst 1, 1) := dk_4 (dk_at dksX5_canMarch_1 3 rfl rfl)
theorem dX5_canMarch_26 : decode cX5_canMarch 26 = .ok (.goto 4, 3) := dk_167 0 4 (dk_at dksX5_canMarch_1 4 rfl rfl)
theorem dX5_canMarch_29 : decode cX5_canMarch 29 = .ok (.iconst 0, 1) := dk_3 (dk_at dksX5_canMarch_1 7 rfl rfl)
theorem dX5_canMarch_30 : decode cX5_canMarch 30 = .ok (.ireturn, 1) := dk_172 (dk_at dksX5_canMarch_1 8 rfl rfl)
abbrev cX5_marchIt : ByteArray := prog_22_method_78_code
def yX5_marchIt : MethodName := ⟨RX5, "marchIt", "(II)I"⟩
def dkwX5_marchIt_7 : List UInt8 := [16, 6, 92, 46, 4, 96, 79, 29, 172]
abbrev dktX5_marchIt_7 : List UInt8 := dkwX5_marchIt_7 ++ []
def dkwX5_marchIt_6 : List UInt8 := [21, 5, 42, 180, 0, 13, 21, 5, 46, 21, 4, 96, 133, 3, 16, 100, 184, 1, 141, 79, 42, 180, 0, 13]
abbrev dktX5_marchIt_6 : List UInt8 := dkwX5_marchIt_6 ++ dktX5_marchIt_7
def dkwX5_marchIt_5 : List UInt8 := [184, 1, 141, 54, 4, 16, 9, 42, 180, 0, 13, 16, 31, 28, 96, 46, 96, 54, 5, 42, 180, 0, 13]
abbrev dktX5_marchIt_5 : List UInt8 := dkwX5_marchIt_5 ++ dktX5_marchIt_6
def dkwX5_marchIt_4 : List UInt8 := [27, 42, 28, 42, 180, 0, 13, 16, 19, 28, 96, 46, 182, 1, 145, 29, 9, 182, 1, 137, 16, 236, 16, 20]
abbrev dktX5_marchIt_4 : List UInt8 := dkwX5_marchIt_4 ++ dktX5_marchIt_5
def dkwX5_marchIt_3 : List UInt8 := [180, 0, 13, 16, 13, 28, 96, 46, 27, 6, 108, 100, 133, 3, 16, 99, 184, 1, 141, 79, 42, 5, 28, 2]
abbrev dktX5_marchIt_3 : List UInt8 := dkwX5_marchIt_3 ++ dktX5_marchIt_4
def dkwX5_marchIt_2 : List UInt8 := [180, 0, 13, 16, 25, 28, 96, 4, 79, 29, 154, 0, 32, 42, 180, 0, 13, 16, 13, 28, 96, 42]
abbrev dktX5_marchIt_2 : List UInt8 := dkwX5_marchIt_2 ++ dktX5_marchIt_3
def dkwX5_marchIt_1 : List UInt8 := [180, 0, 13, 16, 13, 28, 96, 46, 164, 0, 7, 5, 167, 0, 4, 3, 62, 29, 5, 160, 0, 13, 42]
abbrev dktX5_marchIt_1 : List UInt8 := dkwX5_marchIt_1 ++ dktX5_marchIt_2
def dkwX5_marchIt_0 : List UInt8 := [42, 28, 27, 42, 180, 0, 13, 16, 19, 28, 96, 46, 182, 1, 160, 153, 0, 7, 4, 167, 0, 21, 27, 42]
abbrev dktX5_marchIt_0 : List UInt8 := dkwX5_marchIt_0 ++ dktX5_marchIt_1
theorem dksX5_marchIt_0 : cX5_marchIt.data.toList.drop 0 = dktX5_marchIt_0 := by decide +kernel
theorem dksX5_marchIt_1 : cX5_marchIt.data.toList.drop 24 = dktX5_marchIt_1 := dk_seg dksX5_marchIt_0 24 rfl rfl
theorem dksX5_marchIt_2 : cX5_marchIt.data.toList.drop 47 = dktX5_marchIt_2 := dk_seg dksX5_marchIt_1 23 rfl rfl
theorem dksX5_marchIt_3 : cX5_marchIt.data.toList.drop 69 = dktX5_marchIt_3 := dk_seg dksX5_marchIt_2 22 rfl rfl
theorem dksX5_marchIt_4 : cX5_marchIt.data.toList.drop 93 = dktX5_marchIt_4 := dk_seg dksX5_marchIt_3 24 rfl rfl
theorem dksX5_marchIt_5 : cX5_marchIt.data.toList.drop 117 = dktX5_marchIt_5 := dk_seg dksX5_marchIt_4 24 rfl rfl
theorem dksX5_marchIt_6 : cX5_marchIt.data.toList.drop 140 = dktX5_marchIt_6 := dk_seg dksX5_marchIt_5 23 rfl rfl
theorem dksX5_marchIt_7 : cX5_marchIt.data.toList.drop 164 = dktX5_marchIt_7 := dk_seg dksX5_marchIt_6 24 rfl rfl
theorem dX5_marchIt_0 : decode cX5_marchIt 0 = .ok (.aload_n 0, 1) := dk_42 (dk_at dksX5_marchIt_0 0 rfl rfl)
theorem dX5_marchIt_1 : decode cX5_marchIt 1 = .ok (.iload_n 2, 1) := dk_28 (dk_at dksX5_marchIt_0 1 rfl rfl)
theorem dX5_marchIt_2 : decode cX5_marchIt 2 = .ok (.iload_n 1, 1) := dk_27 (dk_at dksX5_marchIt_0 2 rfl rfl)
theorem dX5_marchIt_3 : decode cX5_marchIt 3 = .ok (.aload_n 0, 1) := dk_42 (dk_at dksX5_marchIt_0 3 rfl rfl)
theorem dX5_marchIt_4 : decode cX5_marchIt 4 = .ok (.getfield 13, 3) := dk_180 0 13 (dk_at dksX5_marchIt_0 4 rfl rfl)
theorem dX5_marchIt_7 : decode cX5_marchIt 7 = .ok (.bipush 19, 2) := dk_16 19 (dk_at dksX5_marchIt_0 7 rfl rfl)
theorem dX5_marchIt_9 : decode cX5_marchIt 9 = .ok (.iload_n 2, 1) := dk_28 (dk_at dksX5_marchIt_0 9 rfl rfl)
theorem dX5_marchIt_10 : decode cX5_marchIt 10 = .ok (.iadd, 1) := dk_96 (dk_at dksX5_marchIt_0 10 rfl rfl)
theorem dX5_marchIt_11 : decode cX5_marchIt 11 = .ok (.iaload, 1) := dk_46 (dk_at dksX5_marchIt_0 11 rfl rfl)
theorem dX5_marchIt_12 : decode cX5_marchIt 12 = .ok (.invokevirtual 416, 3) := dk_182 1 160 (dk_at dksX5_marchIt_0 12 rfl rfl)
theorem dX5_marchIt_15 : decode cX5_marchIt 15 = .ok (.ifCond .eq 7, 3) := dk_153 0 7 (dk_at dksX5_marchIt_0 15 rfl rfl)
theorem dX5_marchIt_18 : decode cX5_marchIt 18 = .ok (.iconst 1, 1) := dk_4 (dk_at dksX5_marchIt_0 18 rfl rfl)
theorem dX5_marchIt_19 : decode cX5_marchIt 19 = .ok (.goto 21, 3) := dk_167 0 21 (dk_at dksX5_marchIt_0 19 rfl rfl)
theorem dX5_marchIt_22 : decode cX5_marchIt 22 = .ok (.iload_n 1, 1) := dk_27 (dk_at dksX5_marchIt_0 22 rfl rfl)
theorem dX5_marchIt_23 : decode cX5_marchIt 23 = .ok (.aload_n 0, 1) := dk_42 (dk_at dksX5_marchIt_0 23 rfl rfl)
theorem dX5_marchIt_24 : decode cX5_marchIt 24 = .ok (.getfield 13, 3) := dk_180 0 13 (dk_at dksX5_marchIt_1 0 rfl rfl)
theorem dX5_marchIt_27 : decode cX5_marchIt 27 = .ok (.bipush 13, 2) := dk_16 13 (dk_at dksX5_marchIt_1 3 rfl rfl)
theorem dX5_marchIt_29 : decode cX5_marchIt 29 = .ok (.iload_n 2, 1) := dk_28 (dk_at dksX5_marchIt_1 5 rfl rfl)
theorem dX5_marchIt_30 : decode cX5_marchIt 30 = .ok (.iadd, 1) := dk_96 (dk_at dksX5_marchIt_1 6 rfl rfl)
theorem dX5_marchIt_31 : decode cX5_marchIt 31 = .ok (.iaload, 1) := dk_46 (dk_at dksX5_marchIt_1 7 rfl rfl)
theorem dX5_marchIt_32 : decode cX5_marchIt 32 = .ok (.if_icmp .le 7, 3) := dk_164 0 7 (dk_at dksX5_marchIt_1 8 rfl rfl)
theorem dX5_marchIt_35 : decode cX5_marchIt 35 = .ok (.iconst 2, 1) := dk_5 (dk_at dksX5_marchIt_1 11 rfl rfl)
theorem dX5_marchIt_36 : decode cX5_marchIt 36 = .ok (.goto 4, 3) := dk_167 0 4 (dk_at dksX5_marchIt_1 12 rfl rfl)
theorem dX5_marchIt_39 : decode cX5_marchIt 39 = .ok (.iconst 0, 1) := dk_3 (dk_at dksX5_marchIt_1 15 rfl rfl)
theorem dX5_marchIt_40 : decode cX5_marchIt 40 = .ok (.istore_n 3, 1) := dk_62 (dk_at dksX5_marchIt_1 16 rfl rfl)
theorem dX5_marchIt_41 : decode cX5_marchIt 41 = .ok (.iload_n 3, 1) := dk_29 (dk_at dksX5_marchIt_1 17 rfl rfl)
theorem dX5_marchIt_42 : decode cX5_marchIt 42 = .ok (.iconst 2, 1) := dk_5 (dk_at dksX5_marchIt_1 18 rfl rfl)
theorem dX5_marchIt_43 : decode cX5_marchIt 43 = .ok (.if_icmp .ne 13, 3) := dk_160 0 13 (dk_at dksX5_marchIt_1 19 rfl rfl)
theorem dX5_marchIt_46 : decode cX5_marchIt 46 = .ok (.aload_n 0, 1) := dk_42 (dk_at dksX5_marchIt_1 22 rfl rfl)
theorem dX5_marchIt_47 : decode cX5_marchIt 47 = .ok (.getfield 13, 3) := dk_180 0 13 (dk_at dksX5_marchIt_2 0 rfl rfl)
theorem dX5_marchIt_50 : decode cX5_marchIt 50 = .ok (.bipush 25, 2) := dk_16 25 (dk_at dksX5_marchIt_2 3 rfl rfl)
theorem dX5_marchIt_52 : decode cX5_marchIt 52 = .ok (.iload_n 2, 1) := dk_28 (dk_at dksX5_marchIt_2 5 rfl rfl)
theorem dX5_marchIt_53 : decode cX5_marchIt 53 = .ok (.iadd, 1) := dk_96 (dk_at dksX5_marchIt_2 6 rfl rfl)
theorem dX5_marchIt_54 : decode cX5_marchIt 54 = .ok (.iconst 1, 1) := dk_4 (dk_at dksX5_marchIt_2 7 rfl rfl)
theorem dX5_marchIt_55 : decode cX5_marchIt 55 = .ok (.iastore, 1) := dk_79 (dk_at dksX5_marchIt_2 8 rfl rfl)
theorem dX5_marchIt_56 : decode cX5_marchIt 56 = .ok (.iload_n 3, 1) := dk_29 (dk_at dksX5_marchIt_2 9 rfl rfl)
theorem dX5_marchIt_57 : decode cX5_marchIt 57 = .ok (.ifCond .ne 32, 3) := dk_154 0 32 (dk_at dksX5_marchIt_2 10 rfl rfl)
theorem dX5_marchIt_60 : decode cX5_marchIt 60 = .ok (.aload_n 0, 1) := dk_42 (dk_at dksX5_marchIt_2 13 rfl rfl)
theorem dX5_marchIt_61 : decode cX5_marchIt 61 = .ok (.getfield 13, 3) := dk_180 0 13 (dk_at dksX5_marchIt_2 14 rfl rfl)
theorem dX5_marchIt_64 : decode cX5_marchIt 64 = .ok (.bipush 13, 2) := dk_16 13 (dk_at dksX5_marchIt_2 17 rfl rfl)
theorem dX5_marchIt_66 : decode cX5_marchIt 66 = .ok (.iload_n 2, 1) := dk_28 (dk_at dksX5_marchIt_2 19 rfl rfl)
theorem dX5_marchIt_67 : decode cX5_marchIt 67 = .ok (.iadd, 1) := dk_96 (dk_at dksX5_marchIt_2 20 rfl rfl)
theorem dX5_marchIt_68 : decode cX5_marchIt 68 = .ok (.aload_n 0, 1) := dk_42 (dk_at dksX5_marchIt_2 21 rfl rfl)
theorem dX5_marchIt_69 : decode cX5_marchIt 69 = .ok (.getfield 13, 3) := dk_180 0 13 (dk_at dksX5_marchIt_3 0 rfl rfl)
theorem dX5_marchIt_72 : decode cX5_marchIt 72 = .ok (.bipush 13, 2) := dk_16 13 (dk_at dksX5_marchIt_3 3 rfl rfl)
theorem dX5_marchIt_74 : decode cX5_marchIt 74 = .ok (.iload_n 2, 1) := dk_28 (dk_at dksX5_marchIt_3 5 rfl rfl)
theorem dX5_marchIt_75 : decode cX5_marchIt 75 = .ok (.iadd, 1) := dk_96 (dk_at dksX5_marchIt_3 6 rfl rfl)
theorem dX5_marchIt_76 : decode cX5_marchIt 76 = .ok (.iaload, 1) := dk_46 (dk_at dksX5_marchIt_3 7 rfl rfl)
theorem dX5_marchIt_77 : decode cX5_marchIt 77 = .ok (.iload_n 1, 1) := dk_27 (dk_at dksX5_marchIt_3 8 rfl rfl)
theorem dX5_marchIt_78 : decode cX5_marchIt 78 = .ok (.iconst 3, 1) := dk_6 (dk_at dksX5_marchIt_3 9 rfl rfl)
theorem dX5_marchIt_79 : decode cX5_marchIt 79 = .ok (.idiv, 1) := dk_108 (dk_at dksX5_marchIt_3 10 rfl rfl)
theorem dX5_marchIt_80 : decode cX5_marchIt 80 = .ok (.isub, 1) := dk_100 (dk_at dksX5_marchIt_3 11 rfl rfl)
theorem dX5_marchIt_81 : decode cX5_marchIt 81 = .ok (.i2l, 1) := dk_133 (dk_at dksX5_marchIt_3 12 rfl rfl)
theorem dX5_marchIt_82 : decode cX5_marchIt 82 = .ok (.iconst 0, 1) := dk_3 (dk_at dksX5_marchIt_3 13 rfl rfl)
theorem dX5_marchIt_83 : decode cX5_marchIt 83 = .ok (.bipush 99, 2) := dk_16 99 (dk_at dksX5_marchIt_3 14 rfl rfl)
theorem dX5_marchIt_85 : decode cX5_marchIt 85 = .ok (.invokestatic 397, 3) := dk_184 1 141 (dk_at dksX5_marchIt_3 16 rfl rfl)
theorem dX5_marchIt_88 : decode cX5_marchIt 88 = .ok (.iastore, 1) := dk_79 (dk_at dksX5_marchIt_3 19 rfl rfl)
theorem dX5_marchIt_89 : decode cX5_marchIt 89 = .ok (.aload_n 0, 1) := dk_42 (dk_at dksX5_marchIt_3 20 rfl rfl)
theorem dX5_marchIt_90 : decode cX5_marchIt 90 = .ok (.iconst 2, 1) := dk_5 (dk_at dksX5_marchIt_3 21 rfl rfl)
theorem dX5_marchIt_91 : decode cX5_marchIt 91 = .ok (.iload_n 2, 1) := dk_28 (dk_at dksX5_marchIt_3 22 rfl rfl)
theorem dX5_marchIt_92 : decode cX5_marchIt 92 = .ok (.iconst (-1), 1) := dk_2 (dk_at dksX5_marchIt_3 23 rfl rfl)
theorem dX5_marchIt_93 : decode cX5_marchIt 93 = .ok (.iload_n 1, 1) := dk_27 (dk_at dksX5_marchIt_4 0 rfl rfl)
theorem dX5_marchIt_94 : decode cX5_marchIt 94 = .ok (.aload_n 0, 1) := dk_42 (dk_at dksX5_marchIt_4 1 rfl rfl)
theorem dX5_marchIt_95 : decode cX5_marchIt 95 = .ok (.iload_n 2, 1) := dk_28 (dk_at dksX5_marchIt_4 2 rfl rfl)
theorem dX5_marchIt_96 : decode cX5_marchIt 96 = .ok (.aload_n 0, 1) := dk_42 (dk_at dksX5_marchIt_4 3 rfl rfl)
theorem dX5_marchIt_97 : decode cX5_marchIt 97 = .ok (.getfield 13, 3) := dk_180 0 13 (dk_at dksX5_marchIt_4 4 rfl rfl)
theorem dX5_marchIt_100 : decode cX5_marchIt 100 = .ok (.bipush 19, 2) := dk_16 19 (dk_at dksX5_marchIt_4 7 rfl rfl)
theorem dX5_marchIt_102 : decode cX5_marchIt 102 = .ok (.iload_n 2, 1) := dk_28 (dk_at dksX5_marchIt_4 9 rfl rfl)
theorem dX5_marchIt_103 : decode cX5_marchIt 103 = .ok (.iadd, 1) := dk_96 (dk_at dksX5_marchIt_4 10 rfl rfl)
theorem dX5_marchIt_104 : decode cX5_marchIt 104 = .ok (.iaload, 1) := dk_46 (dk_at dksX5_marchIt_4 11 rfl rfl)
theorem dX5_marchIt_105 : decode cX5_marchIt 105 = .ok (.invokevirtual 401, 3) := dk_182 1 145 (dk_at dksX5_marchIt_4 12 rfl rfl)
theorem dX5_marchIt_108 : decode cX5_marchIt 108 = .ok (.iload_n 3, 1) := dk_29 (dk_at dksX5_marchIt_4 15 rfl rfl)
theorem dX5_marchIt_109 : decode cX5_marchIt 109 = .ok (.lconst 0, 1) := dk_9 (dk_at dksX5_marchIt_4 16 rfl rfl)
theorem dX5_marchIt_110 : decode cX5_marchIt 110 = .ok (.invokevirtual 393, 3) := dk_182 1 137 (dk_at dksX5_marchIt_4 17 rfl rfl)
theorem dX5_marchIt_113 : decode cX5_marchIt 113 = .ok (.bipush (-20), 2) := dk_16 236 (dk_at dksX5_marchIt_4 20 rfl rfl)
theorem dX5_marchIt_115 : decode cX5_marchIt 115 = .ok (.bipush 20, 2) := dk_16 20 (dk_at dksX5_marchIt_4 22 rfl rfl)
theorem dX5_marchIt_117 : decode cX5_marchIt 117 = .ok (.invokestatic 397, 3) := dk_184 1 141 (dk_at dksX5_marchIt_5 0 rfl rfl)
theorem dX5_marchIt_120 : decode cX5_marchIt 120 = .ok (.istore 4, 2) := dk_54 4 (dk_at dksX5_marchIt_5 3 rfl rfl)
theorem dX5_marchIt_122 : decode cX5_marchIt 122 = .ok (.bipush 9, 2) := dk_16 9 (dk_at dksX5_marchIt_5 5 rfl rfl)
theorem dX5_marchIt_124 : decode cX5_marchIt 124 = .ok (.aload_n 0, 1) := dk_42 (dk_at dksX5_marchIt_5 7 rfl rfl)
theorem dX5_marchIt_125 : decode cX5_marchIt 125 = .ok (.getfield 13, 3) := dk_180 0 13 (dk_at dksX5_marchIt_5 8 rfl rfl)
theorem dX5_marchIt_128 : decode cX5_marchIt 128 = .ok (.bipush 31, 2) := dk_16 31 (dk_at dksX5_marchIt_5 11 rfl rfl)
theorem dX5_marchIt_130 : decode cX5_marchIt 130 = .ok (.iload_n 2, 1) := dk_28 (dk_at dksX5_marchIt_5 13 rfl rfl)
theorem dX5_marchIt_131 : decode cX5_marchIt 131 = .ok (.iadd, 1) := dk_96 (dk_at dksX5_marchIt_5 14 rfl rfl)
theorem dX5_marchIt_132 : decode cX5_marchIt 132 = .ok (.iaload, 1) := dk_46 (dk_at dksX5_marchIt_5 15 rfl rfl)
theorem dX5_marchIt_133 : decode cX5_marchIt 133 = .ok (.iadd, 1) := dk_96 (dk_at dksX5_marchIt_5 16 rfl rfl)
theorem dX5_marchIt_134 : decode cX5_marchIt 134 = .ok (.istore 5, 2) := dk_54 5 (dk_at dksX5_marchIt_5 17 rfl rfl)
theorem dX5_marchIt_136 : decode cX5_marchIt 136 = .ok (.aload_n 0, 1) := dk_42 (dk_at dksX5_marchIt_5 19 rfl rfl)
theorem dX5_marchIt_137 : decode cX5_marchIt 137 = .ok (.getfield 13, 3) := dk_180 0 13 (dk_at dksX5_marchIt_5 20 rfl rfl)
theorem dX5_marchIt_140 : decode cX5_marchIt 140 = .ok (.iload 5, 2) := dk_21 5 (dk_at dksX5_marchIt_6 0 rfl rfl)
theorem dX5_marchIt_142 : decode cX5_marchIt 142 = .ok (.aload_n 0, 1) := dk_42 (dk_at dksX5_marchIt_6 2 rfl rfl)
theorem dX5_marchIt_143 : decode cX5_marchIt 143 = .ok (.getfield 13, 3) := dk_180 0 13 (dk_at dksX5_marchIt_6 3 rfl rfl)
theorem dX5_marchIt_146 : decode cX5_marchIt 146 = .ok (.iload 5, 2) := dk_21 5 (dk_at dksX5_marchIt_6 6 rfl rfl)
theorem dX5_marchIt_148 : decode cX5_marchIt 148 = .ok (.iaload, 1) := dk_46 (dk_at dksX5_marchIt_6 8 rfl rfl)
theorem dX5_marchIt_149 : decode cX5_marchIt 149 = .ok (.iload 4, 2) := dk_21 4 (dk_at dksX5_marchIt_6 9 rfl rfl)
theorem dX5_marchIt_151 : decode cX5_marchIt 151 = .ok (.iadd, 1) := dk_96 (dk_at dksX5_marchIt_6 11 rfl rfl)
theorem dX5_marchIt_152 : decode cX5_marchIt 152 = .ok (.i2l, 1) := dk_133 (dk_at dksX5_marchIt_6 12 rfl rfl)
theorem dX5_marchIt_153 : decode cX5_marchIt 153 = .ok (.iconst 0, 1) := dk_3 (dk_at dksX5_marchIt_6 13 rfl rfl)
theorem dX5_marchIt_154 : decode cX5_marchIt 154 = .ok (.bipush 100, 2) := dk_16 100 (dk_at dksX5_marchIt_6 14 rfl rfl)
theorem dX5_marchIt_156 : decode cX5_marchIt 156 = .ok (.invokestatic 397, 3) := dk_184 1 141 (dk_at dksX5_marchIt_6 16 rfl rfl)
theorem dX5_marchIt_159 : decode cX5_marchIt 159 = .ok (.iastore, 1) := dk_79 (dk_at dksX5_marchIt_6 19 rfl rfl)
theorem dX5_marchIt_160 : decode cX5_marchIt 160 = .ok (.aload_n 0, 1) := dk_42 (dk_at dksX5_marchIt_6 20 rfl rfl)
theorem dX5_marchIt_161 : decode cX5_marchIt 161 = .ok (.getfield 13, 3) := dk_180 0 13 (dk_at dksX5_marchIt_6 21 rfl rfl)
theorem dX5_marchIt_164 : decode cX5_marchIt 164 = .ok (.bipush 6, 2) := dk_16 6 (dk_at dksX5_marchIt_7 0 rfl rfl)
theorem dX5_marchIt_166 : decode cX5_marchIt 166 = .ok (.dup2, 1) := dk_92 (dk_at dksX5_marchIt_7 2 rfl rfl)
theorem dX5_marchIt_167 : decode cX5_marchIt 167 = .ok (.iaload, 1) := dk_46 (dk_at dksX5_marchIt_7 3 rfl rfl)
theorem dX5_marchIt_168 : decode cX5_marchIt 168 = .ok (.iconst 1, 1) := dk_4 (dk_at dksX5_marchIt_7 4 rfl rfl)
theorem dX5_marchIt_169 : decode cX5_marchIt 169 = .ok (.iadd, 1) := dk_96 (dk_at dksX5_marchIt_7 5 rfl rfl)
theorem dX5_marchIt_170 : decode cX5_marchIt 170 = .ok (.iastore, 1) := dk_79 (dk_at dksX5_marchIt_7 6 rfl rfl)
theorem dX5_marchIt_171 : decode cX5_marchIt 171 = .ok (.iload_n 3, 1) := dk_29 (dk_at dksX5_marchIt_7 7 rfl rfl)
theorem dX5_marchIt_172 : decode cX5_marchIt 172 = .ok (.ireturn, 1) := dk_172 (dk_at dksX5_marchIt_7 8 rfl rfl)
abbrev cX5_bluff : ByteArray := prog_22_method_81_code
def yX5_bluff : MethodName := ⟨RX5, "bluff", "(III)I"⟩
def dkwX5_bluff_8 : List UInt8 := [167, 255, 132, 21, 5, 2, 159, 0, 8, 29, 4, 160, 0, 8, 21, 5, 167, 0, 5, 21, 4, 172]
abbrev dktX5_bluff_8 : List UInt8 := dkwX5_bluff_8 ++ []
def dkwX5_bluff_7 : List UInt8 := [42, 27, 28, 21, 6, 182, 1, 160, 153, 0, 11, 21, 7, 54, 4, 21, 6, 54, 5, 132, 6, 1]
abbrev dktX5_bluff_7 : List UInt8 := dkwX5_bluff_7 ++ dktX5_bluff_8
def dkwX5_bluff_6 : List UInt8 := [182, 1, 154, 96, 54, 7, 132, 9, 1, 167, 255, 185, 21, 8, 153, 0, 29, 21, 7, 21, 4, 162, 0, 22]
abbrev dktX5_bluff_6 : List UInt8 := dkwX5_bluff_6 ++ dktX5_bluff_7
def dkwX5_bluff_5 : List UInt8 := [27, 21, 9, 182, 1, 157, 154, 0, 7, 4, 167, 0, 4, 3, 54, 8, 21, 7, 42, 27, 21, 9]
abbrev dktX5_bluff_5 : List UInt8 := dkwX5_bluff_5 ++ dktX5_bluff_6
def dkwX5_bluff_4 : List UInt8 := [184, 0, 170, 153, 0, 49, 42, 180, 0, 13, 16, 19, 27, 96, 46, 21, 9, 184, 0, 170, 154, 0, 13, 42]
abbrev dktX5_bluff_4 : List UInt8 := dkwX5_bluff_4 ++ dktX5_bluff_5
def dkwX5_bluff_3 : List UInt8 := [54, 7, 4, 54, 8, 3, 54, 9, 21, 9, 16, 6, 162, 0, 70, 21, 8, 153, 0, 65, 21, 6, 21, 9]
abbrev dktX5_bluff_3 : List UInt8 := dkwX5_bluff_3 ++ dktX5_bluff_4
def dkwX5_bluff_2 : List UInt8 := [154, 0, 5, 2, 172, 19, 1, 190, 54, 4, 2, 54, 5, 3, 54, 6, 21, 6, 16, 64, 162, 0, 123, 3]
abbrev dktX5_bluff_2 : List UInt8 := dkwX5_bluff_2 ++ dktX5_bluff_3
def dkwX5_bluff_1 : List UInt8 := [159, 0, 25, 28, 133, 10, 20, 0, 187, 184, 0, 162, 153, 0, 13, 29, 133, 9, 10, 184, 0, 162]
abbrev dktX5_bluff_1 : List UInt8 := dkwX5_bluff_1 ++ dktX5_bluff_2
def dkwX5_bluff_0 : List UInt8 := [42, 3, 181, 0, 142, 42, 27, 182, 0, 195, 153, 0, 38, 42, 180, 0, 13, 16, 25, 27, 96, 46, 4]
abbrev dktX5_bluff_0 : List UInt8 := dkwX5_bluff_0 ++ dktX5_bluff_1
theorem dksX5_bluff_0 : cX5_bluff.data.toList.drop 0 = dktX5_bluff_0 := by decide +kernel
theorem dksX5_bluff_1 : cX5_bluff.data.toList.drop 23 = dktX5_bluff_1 := dk_seg dksX5_bluff_0 23 rfl rfl
theorem dksX5_bluff_2 : cX5_bluff.data.toList.drop 45 = dktX5_bluff_2 := dk_seg dksX5_bluff_1 22 rfl rfl
theorem dksX5_bluff_3 : cX5_bluff.data.toList.drop 69 = dktX5_bluff_3 := dk_seg dksX5_bluff_2 24 rfl rfl
theorem dksX5_bluff_4 : cX5_bluff.data.toList.drop 93 = dktX5_bluff_4 := dk_seg dksX5_bluff_3 24 rfl rfl
theorem dksX5_bluff_5 : cX5_bluff.data.toList.drop 117 = dktX5_bluff_5 := dk_seg dksX5_bluff_4 24 rfl rfl
theorem dksX5_bluff_6 : cX5_bluff.data.toList.drop 139 = dktX5_bluff_6 := dk_seg dksX5_bluff_5 22 rfl rfl
theorem dksX5_bluff_7 : cX5_bluff.data.toList.drop 163 = dktX5_bluff_7 := dk_seg dksX5_bluff_6 24 rfl rfl
theorem dksX5_bluff_8 : cX5_bluff.data.toList.drop 185 = dktX5_bluff_8 := dk_seg dksX5_bluff_7 22 rfl rfl
theorem dX5_bluff_0 : decode cX5_bluff 0 = .ok (.aload_n 0, 1) := dk_42 (dk_at dksX5_bluff_0 0 rfl rfl)
theorem dX5_bluff_1 : decode cX5_bluff 1 = .ok (.iconst 0, 1) := dk_3 (dk_at dksX5_bluff_0 1 rfl rfl)
theorem dX5_bluff_2 : decode cX5_bluff 2 = .ok (.putfield 142, 3) := dk_181 0 142 (dk_at dksX5_bluff_0 2 rfl rfl)
theorem dX5_bluff_5 : decode cX5_bluff 5 = .ok (.aload_n 0, 1) := dk_42 (dk_at dksX5_bluff_0 5 rfl rfl)
theorem dX5_bluff_6 : decode cX5_bluff 6 = .ok (.iload_n 1, 1) := dk_27 (dk_at dksX5_bluff_0 6 rfl rfl)
theorem dX5_bluff_7 : decode cX5_bluff 7 = .ok (.invokevirtual 195, 3) := dk_182 0 195 (dk_at dksX5_bluff_0 7 rfl rfl)
theorem dX5_bluff_10 : decode cX5_bluff 10 = .ok (.ifCond .eq 38, 3) := dk_153 0 38 (dk_at dksX5_bluff_0 10 rfl rfl)
theorem dX5_bluff_13 : decode cX5_bluff 13 = .ok (.aload_n 0, 1) := dk_42 (dk_at dksX5_bluff_0 13 rfl rfl)
theorem dX5_bluff_14 : decode cX5_bluff 14 = .ok (.getfield 13, 3) := dk_180 0 13 (dk_at dksX5_bluff_0 14 rfl rfl)
theorem dX5_bluff_17 : decode cX5_bluff 17 = .ok (.bipush 25, 2) := dk_16 25 (dk_at dksX5_bluff_0 17 rfl rfl)
theorem dX5_bluff_19 : decode cX5_bluff 19 = .ok (.iload_n 1, 1) := dk_27 (dk_at dksX5_bluff_0 19 rfl rfl)
theorem dX5_bluff_20 : decode cX5_bluff 20 = .ok (.iadd, 1) := dk_96 (dk_at dksX5_bluff_0 20 rfl rfl)
theorem dX5_bluff_21 : decode cX5_bluff 21 = .ok (.iaload, 1) := dk_46 (dk_at dksX5_bluff_0 21 rfl rfl)
theorem dX5_bluff_22 : decode cX5_bluff 22 = .ok (.iconst 1, 1) := dk_4 (dk_at dksX5_bluff_0 22 rfl rfl)
theorem dX5_bluff_23 : decode cX5_bluff 23 = .ok (.if_icmp .eq 25, 3) := dk_159 0 25 (dk_at dksX5_bluff_1 0 rfl rfl)
theorem dX5_bluff_26 : decode cX5_bluff 26 = .ok (.iload_n 2, 1) := dk_28 (dk_at dksX5_bluff_1 3 rfl rfl)
theorem dX5_bluff_27 : decode cX5_bluff 27 = .ok (.i2l, 1) := dk_133 (dk_at dksX5_bluff_1 4 rfl rfl)
theorem dX5_bluff_28 : decode cX5_bluff 28 = .ok (.lconst 1, 1) := dk_10 (dk_at dksX5_bluff_1 5 rfl rfl)
theorem dX5_bluff_29 : decode cX5_bluff 29 = .ok (.ldc2_w 187, 3) := dk_20 0 187 (dk_at dksX5_bluff_1 6 rfl rfl)
theorem dX5_bluff_32 : decode cX5_bluff 32 = .ok (.invokestatic 162, 3) := dk_184 0 162 (dk_at dksX5_bluff_1 9 rfl rfl)
theorem dX5_bluff_35 : decode cX5_bluff 35 = .ok (.ifCond .eq 13, 3) := dk_153 0 13 (dk_at dksX5_bluff_1 12 rfl rfl)
theorem dX5_bluff_38 : decode cX5_bluff 38 = .ok (.iload_n 3, 1) := dk_29 (dk_at dksX5_bluff_1 15 rfl rfl)
theorem dX5_bluff_39 : decode cX5_bluff 39 = .ok (.i2l, 1) := dk_133 (dk_at dksX5_bluff_1 16 rfl rfl)
theorem dX5_bluff_40 : decode cX5_bluff 40 = .ok (.lconst 0, 1) := dk_9 (dk_at dksX5_bluff_1 17 rfl rfl)
theorem dX5_bluff_41 : decode cX5_bluff 41 = .ok (.lconst 1, 1) := dk_10 (dk_at dksX5_bluff_1 18 rfl rfl)
theorem dX5_bluff_42 : decode cX5_bluff 42 = .ok (.invokestatic 162, 3) := dk_184 0 162 (dk_at dksX5_bluff_1 19 rfl rfl)
theorem dX5_bluff_45 : decode cX5_bluff 45 = .ok (.ifCond .ne 5, 3) := dk_154 0 5 (dk_at dksX5_bluff_2 0 rfl rfl)
theorem dX5_bluff_48 : decode cX5_bluff 48 = .ok (.iconst (-1), 1) := dk_2 (dk_at dksX5_bluff_2 3 rfl rfl)
theorem dX5_bluff_49 : decode cX5_bluff 49 = .ok (.ireturn, 1) := dk_172 (dk_at dksX5_bluff_2 4 rfl rfl)
theorem dX5_bluff_50 : decode cX5_bluff 50 = .ok (.ldc_w 446, 3) := dk_19 1 190 (dk_at dksX5_bluff_2 5 rfl rfl)
theorem dX5_bluff_53 : decode cX5_bluff 53 = .ok (.istore 4, 2) := dk_54 4 (dk_at dksX5_bluff_2 8 rfl rfl)
theorem dX5_bluff_55 : decode cX5_bluff 55 = .ok (.iconst (-1), 1) := dk_2 (dk_at dksX5_bluff_2 10 rfl rfl)
theorem dX5_bluff_56 : decode cX5_bluff 56 = .ok (.istore 5, 2) := dk_54 5 (dk_at dksX5_bluff_2 11 rfl rfl)
theorem dX5_bluff_58 : decode cX5_bluff 58 = .ok (.iconst 0, 1) := dk_3 (dk_at dksX5_bluff_2 13 rfl rfl)
theorem dX5_bluff_59 : decode cX5_bluff 59 = .ok (.istore 6, 2) := dk_54 6 (dk_at dksX5_bluff_2 14 rfl rfl)
theorem dX5_bluff_61 : decode cX5_bluff 61 = .ok (.iload 6, 2) := dk_21 6 (dk_at dksX5_bluff_2 16 rfl rfl)
theorem dX5_bluff_63 : decode cX5_bluff 63 = .ok (.bipush 64, 2) := dk_16 64 (dk_at dksX5_bluff_2 18 rfl rfl)
theorem dX5_bluff_65 : decode cX5_bluff 65 = .ok (.if_icmp .ge 123, 3) := dk_162 0 123 (dk_at dksX5_bluff_2 20 rfl rfl)
theorem dX5_bluff_68 : decode cX5_bluff 68 = .ok (.iconst 0, 1) := dk_3 (dk_at dksX5_bluff_2 23 rfl rfl)
theorem dX5_bluff_69 : decode cX5_bluff 69 = .ok (.istore 7, 2) := dk_54 7 (dk_at dksX5_bluff_3 0 rfl rfl)
theorem dX5_bluff_71 : decode cX5_bluff 71 = .ok (.iconst 1, 1) := dk_4 (dk_at dksX5_bluff_3 2 rfl rfl)
theorem dX5_bluff_72 : decode cX5_bluff 72 = .ok (.istore 8, 2) := dk_54 8 (dk_at dksX5_bluff_3 3 rfl rfl)
theorem dX5_bluff_74 : decode cX5_bluff 74 = .ok (.iconst 0, 1) := dk_3 (dk_at dksX5_bluff_3 5 rfl rfl)
theorem dX5_bluff_75 : decode cX5_bluff 75 = .ok (.istore 9, 2) := dk_54 9 (dk_at dksX5_bluff_3 6 rfl rfl)
theorem dX5_bluff_77 : decode cX5_bluff 77 = .ok (.iload 9, 2) := dk_21 9 (dk_at dksX5_bluff_3 8 rfl rfl)
theorem dX5_bluff_79 : decode cX5_bluff 79 = .ok (.bipush 6, 2) := dk_16 6 (dk_at dksX5_bluff_3 10 rfl rfl)
theorem dX5_bluff_81 : decode cX5_bluff 81 = .ok (.if_icmp .ge 70, 3) := dk_162 0 70 (dk_at dksX5_bluff_3 12 rfl rfl)
theorem dX5_bluff_84 : decode cX5_bluff 84 = .ok (.iload 8, 2) := dk_21 8 (dk_at dksX5_bluff_3 15 rfl rfl)
theorem dX5_bluff_86 : decode cX5_bluff 86 = .ok (.ifCond .eq 65, 3) := dk_153 0 65 (dk_at dksX5_bluff_3 17 rfl rfl)
theorem dX5_bluff_89 : decode cX5_bluff 89 = .ok (.iload 6, 2) := dk_21 6 (dk_at dksX5_bluff_3 20 rfl rfl)
theorem dX5_bluff_91 : decode cX5_bluff 91 = .ok (.iload 9, 2) := dk_21 9 (dk_at dksX5_bluff_3 22 rfl rfl)
theorem dX5_bluff_93 : decode cX5_bluff 93 = .ok (.invokestatic 170, 3) := dk_184 0 170 (dk_at dksX5_bluff_4 0 rfl rfl)
theorem dX5_bluff_96 : decode cX5_bluff 96 = .ok (.ifCond .eq 49, 3) := dk_153 0 49 (dk_at dksX5_bluff_4 3 rfl rfl)
theorem dX5_bluff_99 : decode cX5_bluff 99 = .ok (.aload_n 0, 1) := dk_42 (dk_at dksX5_bluff_4 6 rfl rfl)
theorem dX5_bluff_100 : decode cX5_bluff 100 = .ok (.getfield 13, 3) := dk_180 0 13 (dk_at dksX5_bluff_4 7 rfl rfl)
theorem dX5_bluff_103 : decode cX5_bluff 103 = .ok (.bipush 19, 2) := dk_16 19 (dk_at dksX5_bluff_4 10 rfl rfl)
theorem dX5_bluff_105 : decode cX5_bluff 105 = .ok (.iload_n 1, 1) := dk_27 (dk_at dksX5_bluff_4 12 rfl rfl)
theorem dX5_bluff_106 : decode cX5_bluff 106 = .ok (.iadd, 1) := dk_96 (dk_at dksX5_bluff_4 13 rfl rfl)
theorem dX5_bluff_107 : decode cX5_bluff 107 = .ok (.iaload, 1) := dk_46 (dk_at dksX5_bluff_4 14 rfl rfl)
theorem dX5_bluff_108 : decode cX5_bluff 108 = .ok (.iload 9, 2) := dk_21 9 (dk_at dksX5_bluff_4 15 rfl rfl)
theorem dX5_bluff_110 : decode cX5_bluff 110 = .ok (.invokestatic 170, 3) := dk_184 0 170 (dk_at dksX5_bluff_4 17 rfl rfl)
theorem dX5_bluff_113 : decode cX5_bluff 113 = .ok (.ifCond .ne 13, 3) := dk_154 0 13 (dk_at dksX5_bluff_4 20 rfl rfl)
theorem dX5_bluff_116 : decode cX5_bluff 116 = .ok (.aload_n 0, 1) := dk_42 (dk_at dksX5_bluff_4 23 rfl rfl)
theorem dX5_bluff_117 : decode cX5_bluff 117 = .ok (.iload_n 1, 1) := dk_27 (dk_at dksX5_bluff_5 0 rfl rfl)
theorem dX5_bluff_118 : decode cX5_bluff 118 = .ok (.iload 9, 2) := dk_21 9 (dk_at dksX5_bluff_5 1 rfl rfl)
theorem dX5_bluff_120 : decode cX5_bluff 120 = .ok (.invokevirtual 413, 3) := dk_182 1 157 (dk_at dksX5_bluff_5 3 rfl rfl)
theorem dX5_bluff_123 : decode cX5_bluff 123 = .ok (.ifCond .ne 7, 3) := dk_154 0 7 (dk_at dksX5_bluff_5 6 rfl rfl)
theorem dX5_bluff_126 : decode cX5_bluff 126 = .ok (.iconst 1, 1) := dk_4 (dk_at dksX5_bluff_5 9 rfl rfl)
theorem dX5_bluff_127 : decode cX5_bluff 127 = .ok (.goto 4, 3) := dk_167 0 4 (dk_at dksX5_bluff_5 10 rfl rfl)
theorem dX5_bluff_130 : decode cX5_bluff 130 = .ok (.iconst 0, 1) := dk_3 (dk_at dksX5_bluff_5 13 rfl rfl)
theorem dX5_bluff_131 : decode cX5_bluff 131 = .ok (.istore 8, 2) := dk_54 8 (dk_at dksX5_bluff_5 14 rfl rfl)
theorem dX5_bluff_133 : decode cX5_bluff 133 = .ok (.iload 7, 2) := dk_21 7 (dk_at dksX5_bluff_5 16 rfl rfl)
theorem dX5_bluff_135 : decode cX5_bluff 135 = .ok (.aload_n 0, 1) := dk_42 (dk_at dksX5_bluff_5 18 rfl rfl)
theorem dX5_bluff_136 : decode cX5_bluff 136 = .ok (.iload_n 1, 1) := dk_27 (dk_at dksX5_bluff_5 19 rfl rfl)
theorem dX5_bluff_137 : decode cX5_bluff 137 = .ok (.iload 9, 2) := dk_21 9 (dk_at dksX5_bluff_5 20 rfl rfl)
theorem dX5_bluff_139 : decode cX5_bluff 139 = .ok (.invokevirtual 410, 3) := dk_182 1 154 (dk_at dksX5_bluff_6 0 rfl rfl)
theorem dX5_bluff_142 : decode cX5_bluff 142 = .ok (.iadd, 1) := dk_96 (dk_at dksX5_bluff_6 3 rfl rfl)
theorem dX5_bluff_143 : decode cX5_bluff 143 = .ok (.istore 7, 2) := dk_54 7 (dk_at dksX5_bluff_6 4 rfl rfl)
theorem dX5_bluff_145 : decode cX5_bluff 145 = .ok (.iinc 9 1, 3) := dk_132 9 1 (dk_at dksX5_bluff_6 6 rfl rfl)
theorem dX5_bluff_148 : decode cX5_bluff 148 = .ok (.goto (-71), 3) := dk_167 255 185 (dk_at dksX5_bluff_6 9 rfl rfl)
theorem dX5_bluff_151 : decode cX5_bluff 151 = .ok (.iload 8, 2) := dk_21 8 (dk_at dksX5_bluff_6 12 rfl rfl)
theorem dX5_bluff_153 : decode cX5_bluff 153 = .ok (.ifCond .eq 29, 3) := dk_153 0 29 (dk_at dksX5_bluff_6 14 rfl rfl)
theorem dX5_bluff_156 : decode cX5_bluff 156 = .ok (.iload 7, 2) := dk_21 7 (dk_at dksX5_bluff_6 17 rfl rfl)
theorem dX5_bluff_158 : decode cX5_bluff 158 = .ok (.iload 4, 2) := dk_21 4 (dk_at dksX5_bluff_6 19 rfl rfl)
theorem dX5_bluff_160 : decode cX5_bluff 160 = .ok (.if_icmp .ge 22, 3) := dk_162 0 22 (dk_at dksX5_bluff_6 21 rfl rfl)
theorem dX5_bluff_163 : decode cX5_bluff 163 = .ok (.aload_n 0, 1) := dk_42 (dk_at dksX5_bluff_7 0 rfl rfl)
theorem dX5_bluff_164 : decode cX5_bluff 164 = .ok (.iload_n 1, 1) := dk_27 (dk_at dksX5_bluff_7 1 rfl rfl)
theorem dX5_bluff_165 : decode cX5_bluff 165 = .ok (.iload_n 2, 1) := dk_28 (dk_at dksX5_bluff_7 2 rfl rfl)
theorem dX5_bluff_166 : decode cX5_bluff 166 = .ok (.iload 6, 2) := dk_21 6 (dk_at dksX5_bluff_7 3 rfl rfl)
theorem dX5_bluff_168 : decode cX5_bluff 168 = .ok (.invokevirtual 416, 3) := dk_182 1 160 (dk_at dksX5_bluff_7 5 rfl rfl)
theorem dX5_bluff_171 : decode cX5_bluff 171 = .ok (.ifCond .eq 11, 3) := dk_153 0 11 (dk_at dksX5_bluff_7 8 rfl rfl)
theorem dX5_bluff_174 : decode cX5_bluff 174 = .ok (.iload 7, 2) := dk_21 7 (dk_at dksX5_bluff_7 11 rfl rfl)
theorem dX5_bluff_176 : decode cX5_bluff 176 = .ok (.istore 4, 2) := dk_54 4 (dk_at dksX5_bluff_7 13 rfl rfl)
theorem dX5_bluff_178 : decode cX5_bluff 178 = .ok (.iload 6, 2) := dk_21 6 (dk_at dksX5_bluff_7 15 rfl rfl)
theorem dX5_bluff_180 : decode cX5_bluff 180 = .ok (.istore 5, 2) := dk_54 5 (dk_at dksX5_bluff_7 17 rfl rfl)
theorem dX5_bluff_182 : decode cX5_bluff 182 = .ok (.iinc 6 1, 3) := dk_132 6 1 (dk_at dksX5_bluff_7 19 rfl rfl)
theorem dX5_bluff_185 : decode cX5_bluff 185 = .ok (.goto (-124), 3) := dk_167 255 132 (dk_at dksX5_bluff_8 0 rfl rfl)
theorem dX5_bluff_188 : decode cX5_bluff 188 = .ok (.iload 5, 2) := dk_21 5 (dk_at dksX5_bluff_8 3 rfl rfl)
theorem dX5_bluff_190 : decode cX5_bluff 190 = .ok (.iconst (-1), 1) := dk_2 (dk_at dksX5_bluff_8 5 rfl rfl)
theorem dX5_bluff_191 : decode cX5_bluff 191 = .ok (.if_icmp .eq 8, 3) := dk_159 0 8 (dk_at dksX5_bluff_8 6 rfl rfl)
theorem dX5_bluff_194 : decode cX5_bluff 194 = .ok (.iload_n 3, 1) := dk_29 (dk_at dksX5_bluff_8 9 rfl rfl)
theorem dX5_bluff_195 : decode cX5_bluff 195 = .ok (.iconst 1, 1) := dk_4 (dk_at dksX5_bluff_8 10 rfl rfl)
theorem dX5_bluff_196 : decode cX5_bluff 196 = .ok (.if_icmp .ne 8, 3) := dk_160 0 8 (dk_at dksX5_bluff_8 11 rfl rfl)
theorem dX5_bluff_199 : decode cX5_bluff 199 = .ok (.iload 5, 2) := dk_21 5 (dk_at dksX5_bluff_8 14 rfl rfl)
theorem dX5_bluff_201 : decode cX5_bluff 201 = .ok (.goto 5, 3) := dk_167 0 5 (dk_at dksX5_bluff_8 16 rfl rfl)
theorem dX5_bluff_204 : decode cX5_bluff 204 = .ok (.iload 4, 2) := dk_21 4 (dk_at dksX5_bluff_8 19 rfl rfl)
theorem dX5_bluff_206 : decode cX5_bluff 206 = .ok (.ireturn, 1) := dk_172 (dk_at dksX5_bluff_8 21 rfl rfl)
abbrev cX5_scout : ByteArray := prog_22_method_82_code
def yX5_scout : MethodName := ⟨RX5, "scout", "(II)I"⟩
def dkwX5_scout_5 : List UInt8 := [29, 62, 132, 5, 1, 167, 255, 164, 28, 154, 0, 8, 21, 4, 167, 0, 4, 29, 172]
abbrev dktX5_scout_5 : List UInt8 := dkwX5_scout_5 ++ []
def dkwX5_scout_4 : List UInt8 := [29, 164, 0, 8, 21, 5, 167, 0, 5, 21, 4, 54, 4, 21, 7, 29, 164, 0, 8, 21, 7, 167, 0, 4]
abbrev dktX5_scout_4 : List UInt8 := dkwX5_scout_4 ++ dktX5_scout_5
def dkwX5_scout_3 : List UInt8 := [182, 0, 181, 101, 136, 54, 7, 21, 7, 156, 0, 9, 21, 7, 116, 167, 0, 5, 21, 7, 54, 7, 21, 7]
abbrev dktX5_scout_3 : List UInt8 := dkwX5_scout_3 ++ dktX5_scout_4
def dkwX5_scout_2 : List UInt8 := [46, 4, 21, 5, 120, 128, 54, 6, 42, 27, 21, 6, 182, 0, 181, 42, 27, 21, 6, 4, 21, 5, 120, 100]
abbrev dktX5_scout_2 : List UInt8 := dkwX5_scout_2 ++ dktX5_scout_3
def dkwX5_scout_1 : List UInt8 := [172, 2, 62, 2, 54, 4, 3, 54, 5, 21, 5, 16, 6, 162, 0, 91, 42, 180, 0, 13, 16, 19, 27, 96]
abbrev dktX5_scout_1 : List UInt8 := dkwX5_scout_1 ++ dktX5_scout_2
def dkwX5_scout_0 : List UInt8 := [42, 3, 181, 0, 142, 42, 27, 182, 0, 195, 153, 0, 13, 28, 133, 9, 10, 184, 0, 162, 154, 0, 5, 2]
abbrev dktX5_scout_0 : List UInt8 := dkwX5_scout_0 ++ dktX5_scout_1
theorem dksX5_scout_0 : cX5_scout.data.toList.drop 0 = dktX5_scout_0 := by decide +kernel
theorem dksX5_scout_1 : cX5_scout.data.toList.drop 24 = dktX5_scout_1 := dk_seg dksX5_scout_0 24 rfl rfl
theorem dksX5_scout_2 : cX5_scout.data.toList.drop 48 = dktX5_scout_2 := dk_seg dksX5_scout_1 24 rfl rfl
theorem dksX5_scout_3 : cX5_scout.data.toList.drop 72 = dktX5_scout_3 := dk_seg dksX5_scout_2 24 rfl rfl
theorem dksX5_scout_4 : cX5_scout.data.toList.drop 96 = dktX5_scout_4 := dk_seg dksX5_scout_3 24 rfl rfl
theorem dksX5_scout_5 : cX5_scout.data.toList.drop 120 = dktX5_scout_5 := dk_seg dksX5_scout_4 24 rfl rfl
theorem dX5_scout_0 : decode cX5_scout 0 = .ok (.aload_n 0, 1) := dk_42 (dk_at dksX5_scout_0 0 rfl rfl)
theorem dX5_scout_1 : decode cX5_scout 1 = .ok (.iconst 0, 1) := dk_3 (dk_at dksX5_scout_0 1 rfl rfl)
theorem dX5_scout_2 : decode cX5_scout 2 = .ok (.putfield 142, 3) := dk_181 0 142 (dk_at dksX5_scout_0 2 rfl rfl)
theorem dX5_scout_5 : decode cX5_scout 5 = .ok (.aload_n 0, 1) := dk_42 (dk_at dksX5_scout_0 5 rfl rfl)
theorem dX5_scout_6 : decode cX5_scout 6 = .ok (.iload_n 1, 1) := dk_27 (dk_at dksX5_scout_0 6 rfl rfl)
theorem dX5_scout_7 : decode cX5_scout 7 = .ok (.invokevirtual 195, 3) := dk_182 0 195 (dk_at dksX5_scout_0 7 rfl rfl)
theorem dX5_scout_10 : decode cX5_scout 10 = .ok (.ifCond .eq 13, 3) := dk_153 0 13 (dk_at dksX5_scout_0 10 rfl rfl)
theorem dX5_scout_13 : decode cX5_scout 13 = .ok (.iload_n 2, 1) := dk_28 (dk_at dksX5_scout_0 13 rfl rfl)
theorem dX5_scout_14 : decode cX5_scout 14 = .ok (.i2l, 1) := dk_133 (dk_at dksX5_scout_0 14 rfl rfl)
theorem dX5_scout_15 : decode cX5_scout 15 = .ok (.lconst 0, 1) := dk_9 (dk_at dksX5_scout_0 15 rfl rfl)
theorem dX5_scout_16 : decode cX5_scout 16 = .ok (.lconst 1, 1) := dk_10 (dk_at dksX5_scout_0 16 rfl rfl)
theorem dX5_scout_17 : decode cX5_scout 17 = .ok (.invokestatic 162, 3) := dk_184 0 162 (dk_at dksX5_scout_0 17 rfl rfl)
theorem dX5_scout_20 : decode cX5_scout 20 = .ok (.ifCond .ne 5, 3) := dk_154 0 5 (dk_at dksX5_scout_0 20 rfl rfl)
theorem dX5_scout_23 : decode cX5_scout 23 = .ok (.iconst (-1), 1) := dk_2 (dk_at dksX5_scout_0 23 rfl rfl)
theorem dX5_scout_24 : decode cX5_scout 24 = .ok (.ireturn, 1) := dk_172 (dk_at dksX5_scout_1 0 rfl rfl)
theorem dX5_scout_25 : decode cX5_scout 25 = .ok (.iconst (-1), 1) := dk_2 (dk_at dksX5_scout_1 1 rfl rfl)
theorem dX5_scout_26 : decode cX5_scout 26 = .ok (.istore_n 3, 1) := dk_62 (dk_at dksX5_scout_1 2 rfl rfl)
theorem dX5_scout_27 : decode cX5_scout 27 = .ok (.iconst (-1), 1) := dk_2 (dk_at dksX5_scout_1 3 rfl rfl)
theorem dX5_scout_28 : decode cX5_scout 28 = .ok (.istore 4, 2) := dk_54 4 (dk_at dksX5_scout_1 4 rfl rfl)
theorem dX5_scout_30 : decode cX5_scout 30 = .ok (.iconst 0, 1) := dk_3 (dk_at dksX5_scout_1 6 rfl rfl)
theorem dX5_scout_31 : decode cX5_scout 31 = .ok (.istore 5, 2) := dk_54 5 (dk_at dksX5_scout_1 7 rfl rfl)
theorem dX5_scout_33 : decode cX5_scout 33 = .ok (.iload 5, 2) := dk_21 5 (dk_at dksX5_scout_1 9 rfl rfl)
theorem dX5_scout_35 : decode cX5_scout 35 = .ok (.bipush 6, 2) := dk_16 6 (dk_at dksX5_scout_1 11 rfl rfl)
theorem dX5_scout_37 : decode cX5_scout 37 = .ok (.if_icmp .ge 91, 3) := dk_162 0 91 (dk_at dksX5_scout_1 13 rfl rfl)
theorem dX5_scout_40 : decode cX5_scout 40 = .ok (.aload_n 0, 1) := dk_42 (dk_at dksX5_scout_1 16 rfl rfl)
theorem dX5_scout_41 : decode cX5_scout 41 = .ok (.getfield 13, 3) := dk_180 0 13 (dk_at dksX5_scout_1 17 rfl rfl)
theorem dX5_scout_44 : decode cX5_scout 44 = .ok (.bipush 19, 2) := dk_16 19 (dk_at dksX5_scout_1 20 rfl rfl)
theorem dX5_scout_46 : decode cX5_scout 46 = .ok (.iload_n 1, 1) := dk_27 (dk_at dksX5_scout_1 22 rfl rfl)
theorem dX5_scout_47 : decode cX5_scout 47 = .ok (.iadd, 1) := dk_96 (dk_at dksX5_scout_1 23 rfl rfl)
theorem dX5_scout_48 : decode cX5_scout 48 = .ok (.iaload, 1) := dk_46 (dk_at dksX5_scout_2 0 rfl rfl)
theorem dX5_scout_49 : decode cX5_scout 49 = .ok (.iconst 1, 1) := dk_4 (dk_at dksX5_scout_2 1 rfl rfl)
theorem dX5_scout_50 : decode cX5_scout 50 = .ok (.iload 5, 2) := dk_21 5 (dk_at dksX5_scout_2 2 rfl rfl)
theorem dX5_scout_52 : decode cX5_scout 52 = .ok (.ishl, 1) := dk_120 (dk_at dksX5_scout_2 4 rfl rfl)
theorem dX5_scout_53 : decode cX5_scout 53 = .ok (.ior, 1) := dk_128 (dk_at dksX5_scout_2 5 rfl rfl)
theorem dX5_scout_54 : decode cX5_scout 54 = .ok (.istore 6, 2) := dk_54 6 (dk_at dksX5_scout_2 6 rfl rfl)
theorem dX5_scout_56 : decode cX5_scout 56 = .ok (.aload_n 0, 1) := dk_42 (dk_at dksX5_scout_2 8 rfl rfl)
theorem dX5_scout_57 : decode cX5_scout 57 = .ok (.iload_n 1, 1) := dk_27 (dk_at dksX5_scout_2 9 rfl rfl)
theorem dX5_scout_58 : decode cX5_scout 58 = .ok (.iload 6, 2) := dk_21 6 (dk_at dksX5_scout_2 10 rfl rfl)
theorem dX5_scout_60 : decode cX5_scout 60 = .ok (.invokevirtual 181, 3) := dk_182 0 181 (dk_at dksX5_scout_2 12 rfl rfl)
theorem dX5_scout_63 : decode cX5_scout 63 = .ok (.aload_n 0, 1) := dk_42 (dk_at dksX5_scout_2 15 rfl rfl)
theorem dX5_scout_64 : decode cX5_scout 64 = .ok (.iload_n 1, 1) := dk_27 (dk_at dksX5_scout_2 16 rfl rfl)
theorem dX5_scout_65 : decode cX5_scout 65 = .ok (.iload 6, 2) := dk_21 6 (dk_at dksX5_scout_2 17 rfl rfl)
theorem dX5_scout_67 : decode cX5_scout 67 = .ok (.iconst 1, 1) := dk_4 (dk_at dksX5_scout_2 19 rfl rfl)
theorem dX5_scout_68 : decode cX5_scout 68 = .ok (.iload 5, 2) := dk_21 5 (dk_at dksX5_scout_2 20 rfl rfl)
theorem dX5_scout_70 : decode cX5_scout 70 = .ok (.ishl, 1) := dk_120 (dk_at dksX5_scout_2 22 rfl rfl)
theorem dX5_scout_71 : decode cX5_scout 71 = .ok (.isub, 1) := dk_100 (dk_at dksX5_scout_2 23 rfl rfl)
theorem dX5_scout_72 : decode cX5_scout 72 = .ok (.invokevirtual 181, 3) := dk_182 0 181 (dk_at dksX5_scout_3 0 rfl rfl)
theorem dX5_scout_75 : decode cX5_scout 75 = .ok (.lsub, 1) := dk_101 (dk_at dksX5_scout_3 3 rfl rfl)
theorem dX5_scout_76 : decode cX5_scout 76 = .ok (.l2i, 1) := dk_136 (dk_at dksX5_scout_3 4 rfl rfl)
theorem dX5_scout_77 : decode cX5_scout 77 = .ok (.istore 7, 2) := dk_54 7 (dk_at dksX5_scout_3 5 rfl rfl)
theorem dX5_scout_79 : decode cX5_scout 79 = .ok (.iload 7, 2) := dk_21 7 (dk_at dksX5_scout_3 7 rfl rfl)
theorem dX5_scout_81 : decode cX5_scout 81 = .ok (.ifCond .ge 9, 3) := dk_156 0 9 (dk_at dksX5_scout_3 9 rfl rfl)
theorem dX5_scout_84 : decode cX5_scout 84 = .ok (.iload 7, 2) := dk_21 7 (dk_at dksX5_scout_3 12 rfl rfl)
theorem dX5_scout_86 : decode cX5_scout 86 = .ok (.ineg, 1) := dk_116 (dk_at dksX5_scout_3 14 rfl rfl)
theorem dX5_scout_87 : decode cX5_scout 87 = .ok (.goto 5, 3) := dk_167 0 5 (dk_at dksX5_scout_3 15 rfl rfl)
theorem dX5_scout_90 : decode cX5_scout 90 = .ok (.iload 7, 2) := dk_21 7 (dk_at dksX5_scout_3 18 rfl rfl)
theorem dX5_scout_92 : decode cX5_scout 92 = .ok (.istore 7, 2) := dk_54 7 (dk_at dksX5_scout_3 20 rfl rfl)
theorem dX5_scout_94 : decode cX5_scout 94 = .ok (.iload 7, 2) := dk_21 7 (dk_at dksX5_scout_3 22 rfl rfl)
theorem dX5_scout_96 : decode cX5_scout 96 = .ok (.iload_n 3, 1) := dk_29 (dk_at dksX5_scout_4 0 rfl rfl)
theorem dX5_scout_97 : decode cX5_scout 97 = .ok (.if_icmp .le 8, 3) := dk_164 0 8 (dk_at dksX5_scout_4 1 rfl rfl)
theorem dX5_scout_100 : decode cX5_scout 100 = .ok (.iload 5, 2) := dk_21 5 (dk_at dksX5_scout_4 4 rfl rfl)
theorem dX5_scout_102 : decode cX5_scout 102 = .ok (.goto 5, 3) := dk_167 0 5 (dk_at dksX5_scout_4 6 rfl rfl)
theorem dX5_scout_105 : decode cX5_scout 105 = .ok (.iload 4, 2) := dk_21 4 (dk_at dksX5_scout_4 9 rfl rfl)
theorem dX5_scout_107 : decode cX5_scout 107 = .ok (.istore 4, 2) := dk_54 4 (dk_at dksX5_scout_4 11 rfl rfl)
theorem dX5_scout_109 : decode cX5_scout 109 = .ok (.iload 7, 2) := dk_21 7 (dk_at dksX5_scout_4 13 rfl rfl)
theorem dX5_scout_111 : decode cX5_scout 111 = .ok (.iload_n 3, 1) := dk_29 (dk_at dksX5_scout_4 15 rfl rfl)
theorem dX5_scout_112 : decode cX5_scout 112 = .ok (.if_icmp .le 8, 3) := dk_164 0 8 (dk_at dksX5_scout_4 16 rfl rfl)
theorem dX5_scout_115 : decode cX5_scout 115 = .ok (.iload 7, 2) := dk_21 7 (dk_at dksX5_scout_4 19 rfl rfl)
theorem dX5_scout_117 : decode cX5_scout 117 = .ok (.goto 4, 3) := dk_167 0 4 (dk_at dksX5_scout_4 21 rfl rfl)
theorem dX5_scout_120 : decode cX5_scout 120 = .ok (.iload_n 3, 1) := dk_29 (dk_at dksX5_scout_5 0 rfl rfl)
theorem dX5_scout_121 : decode cX5_scout 121 = .ok (.istore_n 3, 1) := dk_62 (dk_at dksX5_scout_5 1 rfl rfl)
theorem dX5_scout_122 : decode cX5_scout 122 = .ok (.iinc 5 1, 3) := dk_132 5 1 (dk_at dksX5_scout_5 2 rfl rfl)
theorem dX5_scout_125 : decode cX5_scout 125 = .ok (.goto (-92), 3) := dk_167 255 164 (dk_at dksX5_scout_5 5 rfl rfl)
theorem dX5_scout_128 : decode cX5_scout 128 = .ok (.iload_n 2, 1) := dk_28 (dk_at dksX5_scout_5 8 rfl rfl)
theorem dX5_scout_129 : decode cX5_scout 129 = .ok (.ifCond .ne 8, 3) := dk_154 0 8 (dk_at dksX5_scout_5 9 rfl rfl)
theorem dX5_scout_132 : decode cX5_scout 132 = .ok (.iload 4, 2) := dk_21 4 (dk_at dksX5_scout_5 12 rfl rfl)
theorem dX5_scout_134 : decode cX5_scout 134 = .ok (.goto 4, 3) := dk_167 0 4 (dk_at dksX5_scout_5 14 rfl rfl)
theorem dX5_scout_137 : decode cX5_scout 137 = .ok (.iload_n 3, 1) := dk_29 (dk_at dksX5_scout_5 17 rfl rfl)
theorem dX5_scout_138 : decode cX5_scout 138 = .ok (.ireturn, 1) := dk_172 (dk_at dksX5_scout_5 18 rfl rfl)
abbrev cX5_holds : ByteArray := prog_22_method_83_code
def yX5_holds : MethodName := ⟨RX5, "holds", "(II)J"⟩
def dkwX5_holds_5 : List UInt8 := [29, 133, 105, 20, 0, 204, 109, 55, 4, 132, 6, 1, 167, 255, 236, 22, 4, 173]
abbrev dktX5_holds_5 : List UInt8 := dkwX5_holds_5 ++ []
def dkwX5_holds_4 : List UInt8 := [96, 62, 132, 4, 10, 167, 255, 205, 20, 1, 193, 55, 4, 3, 54, 6, 21, 6, 28, 162, 0, 20, 22, 4]
abbrev dktX5_holds_4 : List UInt8 := dkwX5_holds_4 ++ dktX5_holds_5
def dkwX5_holds_3 : List UInt8 := [42, 27, 21, 4, 42, 180, 0, 13, 16, 19, 27, 96, 46, 182, 1, 160, 154, 0, 7, 3, 167, 0, 4, 4]
abbrev dktX5_holds_3 : List UInt8 := dkwX5_holds_3 ++ dktX5_holds_4
def dkwX5_holds_2 : List UInt8 := [54, 4, 21, 4, 16, 100, 162, 0, 50, 29, 21, 4, 42, 180, 0, 13, 16, 13, 27, 96, 46, 164, 0, 26]
abbrev dktX5_holds_2 : List UInt8 := dkwX5_holds_2 ++ dktX5_holds_3
def dkwX5_holds_1 : List UInt8 := [159, 0, 15, 28, 133, 9, 20, 1, 191, 184, 0, 162, 154, 0, 7, 20, 0, 252, 173, 3, 62, 16, 9]
abbrev dktX5_holds_1 : List UInt8 := dkwX5_holds_1 ++ dktX5_holds_2
def dkwX5_holds_0 : List UInt8 := [42, 3, 181, 0, 142, 42, 27, 182, 0, 195, 153, 0, 28, 42, 180, 0, 13, 16, 25, 27, 96, 46, 4]
abbrev dktX5_holds_0 : List UInt8 := dkwX5_holds_0 ++ dktX5_holds_1
theorem dksX5_holds_0 : cX5_holds.data.toList.drop 0 = dktX5_holds_0 := by decide +kernel
theorem dksX5_holds_1 : cX5_holds.data.toList.drop 23 = dktX5_holds_1 := dk_seg dksX5_holds_0 23 rfl rfl
theorem dksX5_holds_2 : cX5_holds.data.toList.drop 46 = dktX5_holds_2 := dk_seg dksX5_holds_1 23 rfl rfl
theorem dksX5_holds_3 : cX5_holds.data.toList.drop 70 = dktX5_holds_3 := dk_seg dksX5_holds_2 24 rfl rfl
theorem dksX5_holds_4 : cX5_holds.data.toList.drop 94 = dktX5_holds_4 := dk_seg dksX5_holds_3 24 rfl rfl
theorem dksX5_holds_5 : cX5_holds.data.toList.drop 118 = dktX5_holds_5 := dk_seg dksX5_holds_4 24 rfl rfl
theorem dX5_holds_0 : decode cX5_holds 0 = .ok (.aload_n 0, 1) := dk_42 (dk_at dksX5_holds_0 0 rfl rfl)
theorem dX5_holds_1 : decode cX5_holds 1 = .ok (.iconst 0, 1) := dk_3 (dk_at dksX5_holds_0 1 rfl rfl)
theorem dX5_holds_2 : decode cX5_holds 2 = .ok (.putfield 142, 3) := dk_181 0 142 (dk_at dksX5_holds_0 2 rfl rfl)
theorem dX5_holds_5 : decode cX5_holds 5 = .ok (.aload_n 0, 1) := dk_42 (dk_at dksX5_holds_0 5 rfl rfl)
theorem dX5_holds_6 : decode cX5_holds 6 = .ok (.iload_n 1, 1) := dk_27 (dk_at dksX5_holds_0 6 rfl rfl)
theorem dX5_holds_7 : decode cX5_holds 7 = .ok (.invokevirtual 195, 3) := dk_182 0 195 (dk_at dksX5_holds_0 7 rfl rfl)
theorem dX5_holds_10 : decode cX5_holds 10 = .ok (.ifCond .eq 28, 3) := dk_153 0 28 (dk_at dksX5_holds_0 10 rfl rfl)
theorem dX5_holds_13 : decode cX5_holds 13 = .ok (.aload_n 0, 1) := dk_42 (dk_at dksX5_holds_0 13 rfl rfl)
theorem dX5_holds_14 : decode cX5_holds 14 = .ok (.getfield 13, 3) := dk_180 0 13 (dk_at dksX5_holds_0 14 rfl rfl)
theorem dX5_holds_17 : decode cX5_holds 17 = .ok (.bipush 25, 2) := dk_16 25 (dk_at dksX5_holds_0 17 rfl rfl)
theorem dX5_holds_19 : decode cX5_holds 19 = .ok (.iload_n 1, 1) := dk_27 (dk_at dksX5_holds_0 19 rfl rfl)
theorem dX5_holds_20 : decode cX5_holds 20 = .ok (.iadd, 1) := dk_96 (dk_at dksX5_holds_0 20 rfl rfl)
theorem dX5_holds_21 : decode cX5_holds 21 = .ok (.iaload, 1) := dk_46 (dk_at dksX5_holds_0 21 rfl rfl)
theorem dX5_holds_22 : decode cX5_holds 22 = .ok (.iconst 1, 1) := dk_4 (dk_at dksX5_holds_0 22 rfl rfl)
theorem dX5_holds_23 : decode cX5_holds 23 = .ok (.if_icmp .eq 15, 3) := dk_159 0 15 (dk_at dksX5_holds_1 0 rfl rfl)
theorem dX5_holds_26 : decode cX5_holds 26 = .ok (.iload_n 2, 1) := dk_28 (dk_at dksX5_holds_1 3 rfl rfl)
theorem dX5_holds_27 : decode cX5_holds 27 = .ok (.i2l, 1) := dk_133 (dk_at dksX5_holds_1 4 rfl rfl)
theorem dX5_holds_28 : decode cX5_holds 28 = .ok (.lconst 0, 1) := dk_9 (dk_at dksX5_holds_1 5 rfl rfl)
theorem dX5_holds_29 : decode cX5_holds 29 = .ok (.ldc2_w 447, 3) := dk_20 1 191 (dk_at dksX5_holds_1 6 rfl rfl)
theorem dX5_holds_32 : decode cX5_holds 32 = .ok (.invokestatic 162, 3) := dk_184 0 162 (dk_at dksX5_holds_1 9 rfl rfl)
theorem dX5_holds_35 : decode cX5_holds 35 = .ok (.ifCond .ne 7, 3) := dk_154 0 7 (dk_at dksX5_holds_1 12 rfl rfl)
theorem dX5_holds_38 : decode cX5_holds 38 = .ok (.ldc2_w 252, 3) := dk_20 0 252 (dk_at dksX5_holds_1 15 rfl rfl)
theorem dX5_holds_41 : decode cX5_holds 41 = .ok (.lreturn, 1) := dk_173 (dk_at dksX5_holds_1 18 rfl rfl)
theorem dX5_holds_42 : decode cX5_holds 42 = .ok (.iconst 0, 1) := dk_3 (dk_at dksX5_holds_1 19 rfl rfl)
theorem dX5_holds_43 : decode cX5_holds 43 = .ok (.istore_n 3, 1) := dk_62 (dk_at dksX5_holds_1 20 rfl rfl)
theorem dX5_holds_44 : decode cX5_holds 44 = .ok (.bipush 9, 2) := dk_16 9 (dk_at dksX5_holds_1 21 rfl rfl)
theorem dX5_holds_46 : decode cX5_holds 46 = .ok (.istore 4, 2) := dk_54 4 (dk_at dksX5_holds_2 0 rfl rfl)
theorem dX5_holds_48 : decode cX5_holds 48 = .ok (.iload 4, 2) := dk_21 4 (dk_at dksX5_holds_2 2 rfl rfl)
theorem dX5_holds_50 : decode cX5_holds 50 = .ok (.bipush 100, 2) := dk_16 100 (dk_at dksX5_holds_2 4 rfl rfl)
theorem dX5_holds_52 : decode cX5_holds 52 = .ok (.if_icmp .ge 50, 3) := dk_162 0 50 (dk_at dksX5_holds_2 6 rfl rfl)
theorem dX5_holds_55 : decode cX5_holds 55 = .ok (.iload_n 3, 1) := dk_29 (dk_at dksX5_holds_2 9 rfl rfl)
theorem dX5_holds_56 : decode cX5_holds 56 = .ok (.iload 4, 2) := dk_21 4 (dk_at dksX5_holds_2 10 rfl rfl)
theorem dX5_holds_58 : decode cX5_holds 58 = .ok (.aload_n 0, 1) := dk_42 (dk_at dksX5_holds_2 12 rfl rfl)
theorem dX5_holds_59 : decode cX5_holds 59 = .ok (.getfield 13, 3) := dk_180 0 13 (dk_at dksX5_holds_2 13 rfl rfl)
theorem dX5_holds_62 : decode cX5_holds 62 = .ok (.bipush 13, 2) := dk_16 13 (dk_at dksX5_holds_2 16 rfl rfl)
theorem dX5_holds_64 : decode cX5_holds 64 = .ok (.iload_n 1, 1) := dk_27 (dk_at dksX5_holds_2 18 rfl rfl)
theorem dX5_holds_65 : decode cX5_holds 65 = .ok (.iadd, 1) := dk_96 (dk_at dksX5_holds_2 19 rfl rfl)
theorem dX5_holds_66 : decode cX5_holds 66 = .ok (.iaload, 1) := dk_46 (dk_at dksX5_holds_2 20 rfl rfl)
theorem dX5_holds_67 : decode cX5_holds 67 = .ok (.if_icmp .le 26, 3) := dk_164 0 26 (dk_at dksX5_holds_2 21 rfl rfl)
theorem dX5_holds_70 : decode cX5_holds 70 = .ok (.aload_n 0, 1) := dk_42 (dk_at dksX5_holds_3 0 rfl rfl)
theorem dX5_holds_71 : decode cX5_holds 71 = .ok (.iload_n 1, 1) := dk_27 (dk_at dksX5_holds_3 1 rfl rfl)
theorem dX5_holds_72 : decode cX5_holds 72 = .ok (.iload 4, 2) := dk_21 4 (dk_at dksX5_holds_3 2 rfl rfl)
theorem dX5_holds_74 : decode cX5_holds 74 = .ok (.aload_n 0, 1) := dk_42 (dk_at dksX5_holds_3 4 rfl rfl)
theorem dX5_holds_75 : decode cX5_holds 75 = .ok (.getfield 13, 3) := dk_180 0 13 (dk_at dksX5_holds_3 5 rfl rfl)
theorem dX5_holds_78 : decode cX5_holds 78 = .ok (.bipush 19, 2) := dk_16 19 (dk_at dksX5_holds_3 8 rfl rfl)
theorem dX5_holds_80 : decode cX5_holds 80 = .ok (.iload_n 1, 1) := dk_27 (dk_at dksX5_holds_3 10 rfl rfl)
theorem dX5_holds_81 : decode cX5_holds 81 = .ok (.iadd, 1) := dk_96 (dk_at dksX5_holds_3 11 rfl rfl)
theorem dX5_holds_82 : decode cX5_holds 82 = .ok (.iaload, 1) := dk_46 (dk_at dksX5_holds_3 12 rfl rfl)
theorem dX5_holds_83 : decode cX5_holds 83 = .ok (.invokevirtual 416, 3) := dk_182 1 160 (dk_at dksX5_holds_3 13 rfl rfl)
theorem dX5_holds_86 : decode cX5_holds 86 = .ok (.ifCond .ne 7, 3) := dk_154 0 7 (dk_at dksX5_holds_3 16 rfl rfl)
theorem dX5_holds_89 : decode cX5_holds 89 = .ok (.iconst 0, 1) := dk_3 (dk_at dksX5_holds_3 19 rfl rfl)
theorem dX5_holds_90 : decode cX5_holds 90 = .ok (.goto 4, 3) := dk_167 0 4 (dk_at dksX5_holds_3 20 rfl rfl)
theorem dX5_holds_93 : decode cX5_holds 93 = .ok (.iconst 1, 1) := dk_4 (dk_at dksX5_holds_3 23 rfl rfl)
theorem dX5_holds_94 : decode cX5_holds 94 = .ok (.iadd, 1) := dk_96 (dk_at dksX5_holds_4 0 rfl rfl)
theorem dX5_holds_95 : decode cX5_holds 95 = .ok (.istore_n 3, 1) := dk_62 (dk_at dksX5_holds_4 1 rfl rfl)
theorem dX5_holds_96 : decode cX5_holds 96 = .ok (.iinc 4 10, 3) := dk_132 4 10 (dk_at dksX5_holds_4 2 rfl rfl)
theorem dX5_holds_99 : decode cX5_holds 99 = .ok (.goto (-51), 3) := dk_167 255 205 (dk_at dksX5_holds_4 5 rfl rfl)
theorem dX5_holds_102 : decode cX5_holds 102 = .ok (.ldc2_w 449, 3) := dk_20 1 193 (dk_at dksX5_holds_4 8 rfl rfl)
theorem dX5_holds_105 : decode cX5_holds 105 = .ok (.lstore 4, 2) := dk_55 4 (dk_at dksX5_holds_4 11 rfl rfl)
theorem dX5_holds_107 : decode cX5_holds 107 = .ok (.iconst 0, 1) := dk_3 (dk_at dksX5_holds_4 13 rfl rfl)
theorem dX5_holds_108 : decode cX5_holds 108 = .ok (.istore 6, 2) := dk_54 6 (dk_at dksX5_holds_4 14 rfl rfl)
theorem dX5_holds_110 : decode cX5_holds 110 = .ok (.iload 6, 2) := dk_21 6 (dk_at dksX5_holds_4 16 rfl rfl)
theorem dX5_holds_112 : decode cX5_holds 112 = .ok (.iload_n 2, 1) := dk_28 (dk_at dksX5_holds_4 18 rfl rfl)
theorem dX5_holds_113 : decode cX5_holds 113 = .ok (.if_icmp .ge 20, 3) := dk_162 0 20 (dk_at dksX5_holds_4 19 rfl rfl)
theorem dX5_holds_116 : decode cX5_holds 116 = .ok (.lload 4, 2) := dk_22 4 (dk_at dksX5_holds_4 22 rfl rfl)
theorem dX5_holds_118 : decode cX5_holds 118 = .ok (.iload_n 3, 1) := dk_29 (dk_at dksX5_holds_5 0 rfl rfl)
theorem dX5_holds_119 : decode cX5_holds 119 = .ok (.i2l, 1) := dk_133 (dk_at dksX5_holds_5 1 rfl rfl)
theorem dX5_holds_120 : decode cX5_holds 120 = .ok (.lmul, 1) := dk_105 (dk_at dksX5_holds_5 2 rfl rfl)
theorem dX5_holds_121 : decode cX5_holds 121 = .ok (.ldc2_w 204, 3) := dk_20 0 204 (dk_at dksX5_holds_5 3 rfl rfl)
theorem dX5_holds_124 : decode cX5_holds 124 = .ok (.ldiv, 1) := dk_109 (dk_at dksX5_holds_5 6 rfl rfl)
theorem dX5_holds_125 : decode cX5_holds 125 = .ok (.lstore 4, 2) := dk_55 4 (dk_at dksX5_holds_5 7 rfl rfl)
theorem dX5_holds_127 : decode cX5_holds 127 = .ok (.iinc 6 1, 3) := dk_132 6 1 (dk_at dksX5_holds_5 9 rfl rfl)
theorem dX5_holds_130 : decode cX5_holds 130 = .ok (.goto (-20), 3) := dk_167 255 236 (dk_at dksX5_holds_5 12 rfl rfl)
theorem dX5_holds_133 : decode cX5_holds 133 = .ok (.lload 4, 2) := dk_22 4 (dk_at dksX5_holds_5 15 rfl rfl)
theorem dX5_holds_135 : decode cX5_holds 135 = .ok (.lreturn, 1) := dk_173 (dk_at dksX5_holds_5 17 rfl rfl)
abbrev cX5_retreat : ByteArray := prog_22_method_86_code
def yX5_retreat : MethodName := ⟨RX5, "retreat", "(III)I"⟩
def dkwX5_retreat_5 : List UInt8 := [46, 159, 0, 9, 132, 6, 1, 167, 255, 234, 21, 6, 54, 4, 132, 5, 1, 167, 255, 207, 21, 4, 172]
abbrev dktX5_retreat_5 : List UInt8 := dkwX5_retreat_5 ++ []
def dkwX5_retreat_4 : List UInt8 := [28, 160, 0, 5, 2, 172, 3, 54, 6, 42, 21, 4, 21, 6, 28, 182, 1, 195, 42, 180, 0, 110, 21, 4]
abbrev dktX5_retreat_4 : List UInt8 := dkwX5_retreat_4 ++ dktX5_retreat_5
def dkwX5_retreat_3 : List UInt8 := [167, 0, 9, 42, 180, 0, 110, 27, 46, 172, 27, 54, 4, 3, 54, 5, 21, 5, 29, 163, 0, 49, 21, 4]
abbrev dktX5_retreat_3 : List UInt8 := dkwX5_retreat_3 ++ dktX5_retreat_4
def dkwX5_retreat_2 : List UInt8 := [19, 1, 190, 159, 0, 8, 29, 2, 160, 0, 26, 42, 180, 0, 110, 27, 46, 19, 1, 190, 160, 0, 7, 2]
abbrev dktX5_retreat_2 : List UInt8 := dkwX5_retreat_2 ++ dktX5_retreat_3
def dkwX5_retreat_1 : List UInt8 := [159, 0, 8, 29, 2, 162, 0, 5, 2, 172, 42, 27, 28, 182, 1, 198, 42, 180, 0, 110, 27, 46]
abbrev dktX5_retreat_1 : List UInt8 := dkwX5_retreat_1 ++ dktX5_retreat_2
def dkwX5_retreat_0 : List UInt8 := [42, 3, 181, 0, 142, 42, 27, 182, 0, 195, 153, 0, 21, 42, 28, 182, 0, 195, 153, 0, 13, 27, 28]
abbrev dktX5_retreat_0 : List UInt8 := dkwX5_retreat_0 ++ dktX5_retreat_1
theorem dksX5_retreat_0 : cX5_retreat.data.toList.drop 0 = dktX5_retreat_0 := by decide +kernel
theorem dksX5_retreat_1 : cX5_retreat.data.toList.drop 23 = dktX5_retreat_1 := dk_seg dksX5_retreat_0 23 rfl rfl
theorem dksX5_retreat_2 : cX5_retreat.data.toList.drop 45 = dktX5_retreat_2 := dk_seg dksX5_retreat_1 22 rfl rfl
theorem dksX5_retreat_3 : cX5_retreat.data.toList.drop 69 = dktX5_retreat_3 := dk_seg dksX5_retreat_2 24 rfl rfl
theorem dksX5_retreat_4 : cX5_retreat.data.toList.drop 93 = dktX5_retreat_4 := dk_seg dksX5_retreat_3 24 rfl rfl
theorem dksX5_retreat_5 : cX5_retreat.data.toList.drop 117 = dktX5_retreat_5 := dk_seg dksX5_retreat_4 24 rfl rfl
theorem dX5_retreat_0 : decode cX5_retreat 0 = .ok (.aload_n 0, 1) := dk_42 (dk_at dksX5_retreat_0 0 rfl rfl)
theorem dX5_retreat_1 : decode cX5_retreat 1 = .ok (.iconst 0, 1) := dk_3 (dk_at dksX5_retreat_0 1 rfl rfl)
theorem dX5_retreat_2 : decode cX5_retreat 2 = .ok (.putfield 142, 3) := dk_181 0 142 (dk_at dksX5_retreat_0 2 rfl rfl)
theorem dX5_retreat_5 : decode cX5_retreat 5 = .ok (.aload_n 0, 1) := dk_42 (dk_at dksX5_retreat_0 5 rfl rfl)
theorem dX5_retreat_6 : decode cX5_retreat 6 = .ok (.iload_n 1, 1) := dk_27 (dk_at dksX5_retreat_0 6 rfl rfl)
theorem dX5_retreat_7 : decode cX5_retreat 7 = .ok (.invokevirtual 195, 3) := dk_182 0 195 (dk_at dksX5_retreat_0 7 rfl rfl)
theorem dX5_retreat_10 : decode cX5_retreat 10 = .ok (.ifCond .eq 21, 3) := dk_153 0 21 (dk_at dksX5_retreat_0 10 rfl rfl)
theorem dX5_retreat_13 : decode cX5_retreat 13 = .ok (.aload_n 0, 1) := dk_42 (dk_at dksX5_retreat_0 13 rfl rfl)
theorem dX5_retreat_14 : decode cX5_retreat 14 = .ok (.iload_n 2, 1) := dk_28 (dk_at dksX5_retreat_0 14 rfl rfl)
theorem dX5_retreat_15 : decode cX5_retreat 15 = .ok (.invokevirtual 195, 3) := dk_182 0 195 (dk_at dksX5_retreat_0 15 rfl rfl)
theorem dX5_retreat_18 : decode cX5_retreat 18 = .ok (.ifCond .eq 13, 3) := dk_153 0 13 (dk_at dksX5_retreat_0 18 rfl rfl)
theorem dX5_retreat_21 : decode cX5_retreat 21 = .ok (.iload_n 1, 1) := dk_27 (dk_at dksX5_retreat_0 21 rfl rfl)
theorem dX5_retreat_22 : decode cX5_retreat 22 = .ok (.iload_n 2, 1) := dk_28 (dk_at dksX5_retreat_0 22 rfl rfl)
theorem dX5_retreat_23 : decode cX5_retreat 23 = .ok (.if_icmp .eq 8, 3) := dk_159 0 8 (dk_at dksX5_retreat_1 0 rfl rfl)
theorem dX5_retreat_26 : decode cX5_retreat 26 = .ok (.iload_n 3, 1) := dk_29 (dk_at dksX5_retreat_1 3 rfl rfl)
theorem dX5_retreat_27 : decode cX5_retreat 27 = .ok (.iconst (-1), 1) := dk_2 (dk_at dksX5_retreat_1 4 rfl rfl)
theorem dX5_retreat_28 : decode cX5_retreat 28 = .ok (.if_icmp .ge 5, 3) := dk_162 0 5 (dk_at dksX5_retreat_1 5 rfl rfl)
theorem dX5_retreat_31 : decode cX5_retreat 31 = .ok (.iconst (-1), 1) := dk_2 (dk_at dksX5_retreat_1 8 rfl rfl)
theorem dX5_retreat_32 : decode cX5_retreat 32 = .ok (.ireturn, 1) := dk_172 (dk_at dksX5_retreat_1 9 rfl rfl)
theorem dX5_retreat_33 : decode cX5_retreat 33 = .ok (.aload_n 0, 1) := dk_42 (dk_at dksX5_retreat_1 10 rfl rfl)
theorem dX5_retreat_34 : decode cX5_retreat 34 = .ok (.iload_n 1, 1) := dk_27 (dk_at dksX5_retreat_1 11 rfl rfl)
theorem dX5_retreat_35 : decode cX5_retreat 35 = .ok (.iload_n 2, 1) := dk_28 (dk_at dksX5_retreat_1 12 rfl rfl)
theorem dX5_retreat_36 : decode cX5_retreat 36 = .ok (.invokevirtual 454, 3) := dk_182 1 198 (dk_at dksX5_retreat_1 13 rfl rfl)
theorem dX5_retreat_39 : decode cX5_retreat 39 = .ok (.aload_n 0, 1) := dk_42 (dk_at dksX5_retreat_1 16 rfl rfl)
theorem dX5_retreat_40 : decode cX5_retreat 40 = .ok (.getfield 110, 3) := dk_180 0 110 (dk_at dksX5_retreat_1 17 rfl rfl)
theorem dX5_retreat_43 : decode cX5_retreat 43 = .ok (.iload_n 1, 1) := dk_27 (dk_at dksX5_retreat_1 20 rfl rfl)
theorem dX5_retreat_44 : decode cX5_retreat 44 = .ok (.iaload, 1) := dk_46 (dk_at dksX5_retreat_1 21 rfl rfl)
theorem dX5_retreat_45 : decode cX5_retreat 45 = .ok (.ldc_w 446, 3) := dk_19 1 190 (dk_at dksX5_retreat_2 0 rfl rfl)
theorem dX5_retreat_48 : decode cX5_retreat 48 = .ok (.if_icmp .eq 8, 3) := dk_159 0 8 (dk_at dksX5_retreat_2 3 rfl rfl)
theorem dX5_retreat_51 : decode cX5_retreat 51 = .ok (.iload_n 3, 1) := dk_29 (dk_at dksX5_retreat_2 6 rfl rfl)
theorem dX5_retreat_52 : decode cX5_retreat 52 = .ok (.iconst (-1), 1) := dk_2 (dk_at dksX5_retreat_2 7 rfl rfl)
theorem dX5_retreat_53 : decode cX5_retreat 53 = .ok (.if_icmp .ne 26, 3) := dk_160 0 26 (dk_at dksX5_retreat_2 8 rfl rfl)
theorem dX5_retreat_56 : decode cX5_retreat 56 = .ok (.aload_n 0, 1) := dk_42 (dk_at dksX5_retreat_2 11 rfl rfl)
theorem dX5_retreat_57 : decode cX5_retreat 57 = .ok (.getfield 110, 3) := dk_180 0 110 (dk_at dksX5_retreat_2 12 rfl rfl)
theorem dX5_retreat_60 : decode cX5_retreat 60 = .ok (.iload_n 1, 1) := dk_27 (dk_at dksX5_retreat_2 15 rfl rfl)
theorem dX5_retreat_61 : decode cX5_retreat 61 = .ok (.iaload, 1) := dk_46 (dk_at dksX5_retreat_2 16 rfl rfl)
theorem dX5_retreat_62 : decode cX5_retreat 62 = .ok (.ldc_w 446, 3) := dk_19 1 190 (dk_at dksX5_retreat_2 17 rfl rfl)
theorem dX5_retreat_65 : decode cX5_retreat 65 = .ok (.if_icmp .ne 7, 3) := dk_160 0 7 (dk_at dksX5_retreat_2 20 rfl rfl)
theorem dX5_retreat_68 : decode cX5_retreat 68 = .ok (.iconst (-1), 1) := dk_2 (dk_at dksX5_retreat_2 23 rfl rfl)
theorem dX5_retreat_69 : decode cX5_retreat 69 = .ok (.goto 9, 3) := dk_167 0 9 (dk_at dksX5_retreat_3 0 rfl rfl)
theorem dX5_retreat_72 : decode cX5_retreat 72 = .ok (.aload_n 0, 1) := dk_42 (dk_at dksX5_retreat_3 3 rfl rfl)
theorem dX5_retreat_73 : decode cX5_retreat 73 = .ok (.getfield 110, 3) := dk_180 0 110 (dk_at dksX5_retreat_3 4 rfl rfl)
theorem dX5_retreat_76 : decode cX5_retreat 76 = .ok (.iload_n 1, 1) := dk_27 (dk_at dksX5_retreat_3 7 rfl rfl)
theorem dX5_retreat_77 : decode cX5_retreat 77 = .ok (.iaload, 1) := dk_46 (dk_at dksX5_retreat_3 8 rfl rfl)
theorem dX5_retreat_78 : decode cX5_retreat 78 = .ok (.ireturn, 1) := dk_172 (dk_at dksX5_retreat_3 9 rfl rfl)
theorem dX5_retreat_79 : decode cX5_retreat 79 = .ok (.iload_n 1, 1) := dk_27 (dk_at dksX5_retreat_3 10 rfl rfl)
theorem dX5_retreat_80 : decode cX5_retreat 80 = .ok (.istore 4, 2) := dk_54 4 (dk_at dksX5_retreat_3 11 rfl rfl)
theorem dX5_retreat_82 : decode cX5_retreat 82 = .ok (.iconst 0, 1) := dk_3 (dk_at dksX5_retreat_3 13 rfl rfl)
theorem dX5_retreat_83 : decode cX5_retreat 83 = .ok (.istore 5, 2) := dk_54 5 (dk_at dksX5_retreat_3 14 rfl rfl)
theorem dX5_retreat_85 : decode cX5_retreat 85 = .ok (.iload 5, 2) := dk_21 5 (dk_at dksX5_retreat_3 16 rfl rfl)
theorem dX5_retreat_87 : decode cX5_retreat 87 = .ok (.iload_n 3, 1) := dk_29 (dk_at dksX5_retreat_3 18 rfl rfl)
theorem dX5_retreat_88 : decode cX5_retreat 88 = .ok (.if_icmp .gt 49, 3) := dk_163 0 49 (dk_at dksX5_retreat_3 19 rfl rfl)
theorem dX5_retreat_91 : decode cX5_retreat 91 = .ok (.iload 4, 2) := dk_21 4 (dk_at dksX5_retreat_3 22 rfl rfl)
theorem dX5_retreat_93 : decode cX5_retreat 93 = .ok (.iload_n 2, 1) := dk_28 (dk_at dksX5_retreat_4 0 rfl rfl)
theorem dX5_retreat_94 : decode cX5_retreat 94 = .ok (.if_icmp .ne 5, 3) := dk_160 0 5 (dk_at dksX5_retreat_4 1 rfl rfl)
theorem dX5_retreat_97 : decode cX5_retreat 97 = .ok (.iconst (-1), 1) := dk_2 (dk_at dksX5_retreat_4 4 rfl rfl)
theorem dX5_retreat_98 : decode cX5_retreat 98 = .ok (.ireturn, 1) := dk_172 (dk_at dksX5_retreat_4 5 rfl rfl)
theorem dX5_retreat_99 : decode cX5_retreat 99 = .ok (.iconst 0, 1) := dk_3 (dk_at dksX5_retreat_4 6 rfl rfl)
theorem dX5_retreat_100 : decode cX5_retreat 100 = .ok (.istore 6, 2) := dk_54 6 (dk_at dksX5_retreat_4 7 rfl rfl)
theorem dX5_retreat_102 : decode cX5_retreat 102 = .ok (.aload_n 0, 1) := dk_42 (dk_at dksX5_retreat_4 9 rfl rfl)
theorem dX5_retreat_103 : decode cX5_retreat 103 = .ok (.iload 4, 2) := dk_21 4 (dk_at dksX5_retreat_4 10 rfl rfl)
theorem dX5_retreat_105 : decode cX5_retreat 105 = .ok (.iload 6, 2) := dk_21 6 (dk_at dksX5_retreat_4 12 rfl rfl)
theorem dX5_retreat_107 : decode cX5_retreat 107 = .ok (.iload_n 2, 1) := dk_28 (dk_at dksX5_retreat_4 14 rfl rfl)
theorem dX5_retreat_108 : decode cX5_retreat 108 = .ok (.invokevirtual 451, 3) := dk_182 1 195 (dk_at dksX5_retreat_4 15 rfl rfl)
theorem dX5_retreat_111 : decode cX5_retreat 111 = .ok (.aload_n 0, 1) := dk_42 (dk_at dksX5_retreat_4 18 rfl rfl)
theorem dX5_retreat_112 : decode cX5_retreat 112 = .ok (.getfield 110, 3) := dk_180 0 110 (dk_at dksX5_retreat_4 19 rfl rfl)
theorem dX5_retreat_115 : decode cX5_retreat 115 = .ok (.iload 4, 2) := dk_21 4 (dk_at dksX5_retreat_4 22 rfl rfl)
theorem dX5_retreat_117 : decode cX5_retreat 117 = .ok (.iaload, 1) := dk_46 (dk_at dksX5_retreat_5 0 rfl rfl)
theorem dX5_retreat_118 : decode cX5_retreat 118 = .ok (.if_icmp .eq 9, 3) := dk_159 0 9 (dk_at dksX5_retreat_5 1 rfl rfl)
theorem dX5_retreat_121 : decode cX5_retreat 121 = .ok (.iinc 6 1, 3) := dk_132 6 1 (dk_at dksX5_retreat_5 4 rfl rfl)
theorem dX5_retreat_124 : decode cX5_retreat 124 = .ok (.goto (-22), 3) := dk_167 255 234 (dk_at dksX5_retreat_5 7 rfl rfl)
theorem dX5_retreat_127 : decode cX5_retreat 127 = .ok (.iload 6, 2) := dk_21 6 (dk_at dksX5_retreat_5 10 rfl rfl)
theorem dX5_retreat_129 : decode cX5_retreat 129 = .ok (.istore 4, 2) := dk_54 4 (dk_at dksX5_retreat_5 12 rfl rfl)
theorem dX5_retreat_131 : decode cX5_retreat 131 = .ok (.iinc 5 1, 3) := dk_132 5 1 (dk_at dksX5_retreat_5 14 rfl rfl)
theorem dX5_retreat_134 : decode cX5_retreat 134 = .ok (.goto (-49), 3) := dk_167 255 207 (dk_at dksX5_retreat_5 17 rfl rfl)
theorem dX5_retreat_137 : decode cX5_retreat 137 = .ok (.iload 4, 2) := dk_21 4 (dk_at dksX5_retreat_5 20 rfl rfl)
theorem dX5_retreat_139 : decode cX5_retreat 139 = .ok (.ireturn, 1) := dk_172 (dk_at dksX5_retreat_5 22 rfl rfl)
abbrev cX5_layHours : ByteArray := prog_22_method_85_code
def yX5_layHours : MethodName := ⟨RX5, "layHours", "(II)V"⟩
def dkwX5_layHours_5 : List UInt8 := [132, 6, 1, 167, 255, 199, 132, 5, 1, 167, 255, 184, 132, 4, 1, 167, 255, 169, 177]
abbrev dktX5_layHours_5 : List UInt8 := dkwX5_layHours_5 ++ []
def dkwX5_layHours_4 : List UInt8 := [180, 0, 110, 21, 5, 46, 162, 0, 8, 21, 7, 167, 0, 10, 42, 180, 0, 110, 21, 5, 46, 79]
abbrev dktX5_layHours_4 : List UInt8 := dkwX5_layHours_4 ++ dktX5_layHours_5
def dkwX5_layHours_3 : List UInt8 := [159, 0, 51, 42, 21, 5, 21, 6, 28, 182, 1, 195, 54, 7, 42, 180, 0, 110, 21, 5, 21, 7, 42]
abbrev dktX5_layHours_3 : List UInt8 := dkwX5_layHours_3 ++ dktX5_layHours_4
def dkwX5_layHours_2 : List UInt8 := [162, 0, 87, 3, 54, 5, 21, 5, 29, 162, 0, 72, 3, 54, 6, 21, 6, 29, 162, 0, 57, 21, 5, 28]
abbrev dktX5_layHours_2 : List UInt8 := dkwX5_layHours_2 ++ dktX5_layHours_3
def dkwX5_layHours_1 : List UInt8 := [28, 160, 0, 7, 3, 167, 0, 6, 19, 1, 190, 79, 132, 4, 1, 167, 255, 227, 3, 54, 4, 21, 4, 29]
abbrev dktX5_layHours_1 : List UInt8 := dkwX5_layHours_1 ++ dktX5_layHours_2
def dkwX5_layHours_0 : List UInt8 := [42, 180, 0, 13, 3, 46, 62, 3, 54, 4, 21, 4, 29, 162, 0, 29, 42, 180, 0, 110, 21, 4, 21, 4]
abbrev dktX5_layHours_0 : List UInt8 := dkwX5_layHours_0 ++ dktX5_layHours_1
theorem dksX5_layHours_0 : cX5_layHours.data.toList.drop 0 = dktX5_layHours_0 := by decide +kernel
theorem dksX5_layHours_1 : cX5_layHours.data.toList.drop 24 = dktX5_layHours_1 := dk_seg dksX5_layHours_0 24 rfl rfl
theorem dksX5_layHours_2 : cX5_layHours.data.toList.drop 48 = dktX5_layHours_2 := dk_seg dksX5_layHours_1 24 rfl rfl
theorem dksX5_layHours_3 : cX5_layHours.data.toList.drop 72 = dktX5_layHours_3 := dk_seg dksX5_layHours_2 24 rfl rfl
theorem dksX5_layHours_4 : cX5_layHours.data.toList.drop 95 = dktX5_layHours_4 := dk_seg dksX5_layHours_3 23 rfl rfl
theorem dksX5_layHours_5 : cX5_layHours.data.toList.drop 117 = dktX5_layHours_5 := dk_seg dksX5_layHours_4 22 rfl rfl
theorem dX5_layHours_0 : decode cX5_layHours 0 = .ok (.aload_n 0, 1) := dk_42 (dk_at dksX5_layHours_0 0 rfl rfl)
theorem dX5_layHours_1 : decode cX5_layHours 1 = .ok (.getfield 13, 3) := dk_180 0 13 (dk_at dksX5_layHours_0 1 rfl rfl)
theorem dX5_layHours_4 : decode cX5_layHours 4 = .ok (.iconst 0, 1) := dk_3 (dk_at dksX5_layHours_0 4 rfl rfl)
theorem dX5_layHours_5 : decode cX5_layHours 5 = .ok (.iaload, 1) := dk_46 (dk_at dksX5_layHours_0 5 rfl rfl)
theorem dX5_layHours_6 : decode cX5_layHours 6 = .ok (.istore_n 3, 1) := dk_62 (dk_at dksX5_layHours_0 6 rfl rfl)
theorem dX5_layHours_7 : decode cX5_layHours 7 = .ok (.iconst 0, 1) := dk_3 (dk_at dksX5_layHours_0 7 rfl rfl)
theorem dX5_layHours_8 : decode cX5_layHours 8 = .ok (.istore 4, 2) := dk_54 4 (dk_at dksX5_layHours_0 8 rfl rfl)
theorem dX5_layHours_10 : decode cX5_layHours 10 = .ok (.iload 4, 2) := dk_21 4 (dk_at dksX5_layHours_0 10 rfl rfl)
theorem dX5_layHours_12 : decode cX5_layHours 12 = .ok (.iload_n 3, 1) := dk_29 (dk_at dksX5_layHours_0 12 rfl rfl)
theorem dX5_layHours_13 : decode cX5_layHours 13 = .ok (.if_icmp .ge 29, 3) := dk_162 0 29 (dk_at dksX5_layHours_0 13 rfl rfl)
theorem dX5_layHours_16 : decode cX5_layHours 16 = .ok (.aload_n 0, 1) := dk_42 (dk_at dksX5_layHours_0 16 rfl rfl)
theorem dX5_layHours_17 : decode cX5_layHours 17 = .ok (.getfield 110, 3) := dk_180 0 110 (dk_at dksX5_layHours_0 17 rfl rfl)
theorem dX5_layHours_20 : decode cX5_layHours 20 = .ok (.iload 4, 2) := dk_21 4 (dk_at dksX5_layHours_0 20 rfl rfl)
theorem dX5_layHours_22 : decode cX5_layHours 22 = .ok (.iload 4, 2) := dk_21 4 (dk_at dksX5_layHours_0 22 rfl rfl)
theorem dX5_layHours_24 : decode cX5_layHours 24 = .ok (.iload_n 2, 1) := dk_28 (dk_at dksX5_layHours_1 0 rfl rfl)
theorem dX5_layHours_25 : decode cX5_layHours 25 = .ok (.if_icmp .ne 7, 3) := dk_160 0 7 (dk_at dksX5_layHours_1 1 rfl rfl)
theorem dX5_layHours_28 : decode cX5_layHours 28 = .ok (.iconst 0, 1) := dk_3 (dk_at dksX5_layHours_1 4 rfl rfl)
theorem dX5_layHours_29 : decode cX5_layHours 29 = .ok (.goto 6, 3) := dk_167 0 6 (dk_at dksX5_layHours_1 5 rfl rfl)
theorem dX5_layHours_32 : decode cX5_layHours 32 = .ok (.ldc_w 446, 3) := dk_19 1 190 (dk_at dksX5_layHours_1 8 rfl rfl)
theorem dX5_layHours_35 : decode cX5_layHours 35 = .ok (.iastore, 1) := dk_79 (dk_at dksX5_layHours_1 11 rfl rfl)
theorem dX5_layHours_36 : decode cX5_layHours 36 = .ok (.iinc 4 1, 3) := dk_132 4 1 (dk_at dksX5_layHours_1 12 rfl rfl)
theorem dX5_layHours_39 : decode cX5_layHours 39 = .ok (.goto (-29), 3) := dk_167 255 227 (dk_at dksX5_layHours_1 15 rfl rfl)
theorem dX5_layHours_42 : decode cX5_layHours 42 = .ok (.iconst 0, 1) := dk_3 (dk_at dksX5_layHours_1 18 rfl rfl)
theorem dX5_layHours_43 : decode cX5_layHours 43 = .ok (.istore 4, 2) := dk_54 4 (dk_at dksX5_layHours_1 19 rfl rfl)
theorem dX5_layHours_45 : decode cX5_layHours 45 = .ok (.iload 4, 2) := dk_21 4 (dk_at dksX5_layHours_1 21 rfl rfl)
theorem dX5_layHours_47 : decode cX5_layHours 47 = .ok (.iload_n 3, 1) := dk_29 (dk_at dksX5_layHours_1 23 rfl rfl)
theorem dX5_layHours_48 : decode cX5_layHours 48 = .ok (.if_icmp .ge 87, 3) := dk_162 0 87 (dk_at dksX5_layHours_2 0 rfl rfl)
theorem dX5_layHours_51 : decode cX5_layHours 51 = .ok (.iconst 0, 1) := dk_3 (dk_at dksX5_layHours_2 3 rfl rfl)
theorem dX5_layHours_52 : decode cX5_layHours 52 = .ok (.istore 5, 2) := dk_54 5 (dk_at dksX5_layHours_2 4 rfl rfl)
theorem dX5_layHours_54 : decode cX5_layHours 54 = .ok (.iload 5, 2) := dk_21 5 (dk_at dksX5_layHours_2 6 rfl rfl)
theorem dX5_layHours_56 : decode cX5_layHours 56 = .ok (.iload_n 3, 1) := dk_29 (dk_at dksX5_layHours_2 8 rfl rfl)
theorem dX5_layHours_57 : decode cX5_layHours 57 = .ok (.if_icmp .ge 72, 3) := dk_162 0 72 (dk_at dksX5_layHours_2 9 rfl rfl)
theorem dX5_layHours_60 : decode cX5_layHours 60 = .ok (.iconst 0, 1) := dk_3 (dk_at dksX5_layHours_2 12 rfl rfl)
theorem dX5_layHours_61 : decode cX5_layHours 61 = .ok (.istore 6, 2) := dk_54 6 (dk_at dksX5_layHours_2 13 rfl rfl)
theorem dX5_layHours_63 : decode cX5_layHours 63 = .ok (.iload 6, 2) := dk_21 6 (dk_at dksX5_layHours_2 15 rfl rfl)
theorem dX5_layHours_65 : decode cX5_layHours 65 = .ok (.iload_n 3, 1) := dk_29 (dk_at dksX5_layHours_2 17 rfl rfl)
theorem dX5_layHours_66 : decode cX5_layHours 66 = .ok (.if_icmp .ge 57, 3) := dk_162 0 57 (dk_at dksX5_layHours_2 18 rfl rfl)
theorem dX5_layHours_69 : decode cX5_layHours 69 = .ok (.iload 5, 2) := dk_21 5 (dk_at dksX5_layHours_2 21 rfl rfl)
theorem dX5_layHours_71 : decode cX5_layHours 71 = .ok (.iload_n 2, 1) := dk_28 (dk_at dksX5_layHours_2 23 rfl rfl)
theorem dX5_layHours_72 : decode cX5_layHours 72 = .ok (.if_icmp .eq 51, 3) := dk_159 0 51 (dk_at dksX5_layHours_3 0 rfl rfl)
theorem dX5_layHours_75 : decode cX5_layHours 75 = .ok (.aload_n 0, 1) := dk_42 (dk_at dksX5_layHours_3 3 rfl rfl)
theorem dX5_layHours_76 : decode cX5_layHours 76 = .ok (.iload 5, 2) := dk_21 5 (dk_at dksX5_layHours_3 4 rfl rfl)
theorem dX5_layHours_78 : decode cX5_layHours 78 = .ok (.iload 6, 2) := dk_21 6 (dk_at dksX5_layHours_3 6 rfl rfl)
theorem dX5_layHours_80 : decode cX5_layHours 80 = .ok (.iload_n 2, 1) := dk_28 (dk_at dksX5_layHours_3 8 rfl rfl)
theorem dX5_layHours_81 : decode cX5_layHours 81 = .ok (.invokevirtual 451, 3) := dk_182 1 195 (dk_at dksX5_layHours_3 9 rfl rfl)
theorem dX5_layHours_84 : decode cX5_layHours 84 = .ok (.istore 7, 2) := dk_54 7 (dk_at dksX5_layHours_3 12 rfl rfl)
theorem dX5_layHours_86 : decode cX5_layHours 86 = .ok (.aload_n 0, 1) := dk_42 (dk_at dksX5_layHours_3 14 rfl rfl)
theorem dX5_layHours_87 : decode cX5_layHours 87 = .ok (.getfield 110, 3) := dk_180 0 110 (dk_at dksX5_layHours_3 15 rfl rfl)
theorem dX5_layHours_90 : decode cX5_layHours 90 = .ok (.iload 5, 2) := dk_21 5 (dk_at dksX5_layHours_3 18 rfl rfl)
theorem dX5_layHours_92 : decode cX5_layHours 92 = .ok (.iload 7, 2) := dk_21 7 (dk_at dksX5_layHours_3 20 rfl rfl)
theorem dX5_layHours_94 : decode cX5_layHours 94 = .ok (.aload_n 0, 1) := dk_42 (dk_at dksX5_layHours_3 22 rfl rfl)
theorem dX5_layHours_95 : decode cX5_layHours 95 = .ok (.getfield 110, 3) := dk_180 0 110 (dk_at dksX5_layHours_4 0 rfl rfl)
theorem dX5_layHours_98 : decode cX5_layHours 98 = .ok (.iload 5, 2) := dk_21 5 (dk_at dksX5_layHours_4 3 rfl rfl)
theorem dX5_layHours_100 : decode cX5_layHours 100 = .ok (.iaload, 1) := dk_46 (dk_at dksX5_layHours_4 5 rfl rfl)
theorem dX5_layHours_101 : decode cX5_layHours 101 = .ok (.if_icmp .ge 8, 3) := dk_162 0 8 (dk_at dksX5_layHours_4 6 rfl rfl)
theorem dX5_layHours_104 : decode cX5_layHours 104 = .ok (.iload 7, 2) := dk_21 7 (dk_at dksX5_layHours_4 9 rfl rfl)
theorem dX5_layHours_106 : decode cX5_layHours 106 = .ok (.goto 10, 3) := dk_167 0 10 (dk_at dksX5_layHours_4 11 rfl rfl)
theorem dX5_layHours_109 : decode cX5_layHours 109 = .ok (.aload_n 0, 1) := dk_42 (dk_at dksX5_layHours_4 14 rfl rfl)
theorem dX5_layHours_110 : decode cX5_layHours 110 = .ok (.getfield 110, 3) := dk_180 0 110 (dk_at dksX5_layHours_4 15 rfl rfl)
theorem dX5_layHours_113 : decode cX5_layHours 113 = .ok (.iload 5, 2) := dk_21 5 (dk_at dksX5_layHours_4 18 rfl rfl)
theorem dX5_layHours_115 : decode cX5_layHours 115 = .ok (.iaload, 1) := dk_46 (dk_at dksX5_layHours_4 20 rfl rfl)
theorem dX5_layHours_116 : decode cX5_layHours 116 = .ok (.iastore, 1) := dk_79 (dk_at dksX5_layHours_4 21 rfl rfl)
theorem dX5_layHours_117 : decode cX5_layHours 117 = .ok (.iinc 6 1, 3) := dk_132 6 1 (dk_at dksX5_layHours_5 0 rfl rfl)
theorem dX5_layHours_120 : decode cX5_layHours 120 = .ok (.goto (-57), 3) := dk_167 255 199 (dk_at dksX5_layHours_5 3 rfl rfl)
theorem dX5_layHours_123 : decode cX5_layHours 123 = .ok (.iinc 5 1, 3) := dk_132 5 1 (dk_at dksX5_layHours_5 6 rfl rfl)
theorem dX5_layHours_126 : decode cX5_layHours 126 = .ok (.goto (-72), 3) := dk_167 255 184 (dk_at dksX5_layHours_5 9 rfl rfl)
theorem dX5_layHours_129 : decode cX5_layHours 129 = .ok (.iinc 4 1, 3) := dk_132 4 1 (dk_at dksX5_layHours_5 12 rfl rfl)
theorem dX5_layHours_132 : decode cX5_layHours 132 = .ok (.goto (-87), 3) := dk_167 255 169 (dk_at dksX5_layHours_5 15 rfl rfl)
theorem dX5_layHours_135 : decode cX5_layHours 135 = .ok (.return_, 1) := dk_177 (dk_at dksX5_layHours_5 18 rfl rfl)
abbrev cX5_hoursBy : ByteArray := prog_22_method_84_code
def yX5_hoursBy : MethodName := ⟨RX5, "hoursBy", "(III)I"⟩
def dkwX5_hoursBy_3 : List UInt8 := [21, 4, 42, 180, 0, 110, 28, 46, 96, 172]
abbrev dktX5_hoursBy_3 : List UInt8 := dkwX5_hoursBy_3 ++ []
def dkwX5_hoursBy_2 : List UInt8 := [21, 5, 153, 0, 15, 42, 180, 0, 110, 28, 46, 19, 1, 190, 160, 0, 9, 19, 1, 190, 167, 0, 12]
abbrev dktX5_hoursBy_2 : List UInt8 := dkwX5_hoursBy_2 ++ dktX5_hoursBy_3
def dkwX5_hoursBy_1 : List UInt8 := [180, 0, 13, 16, 25, 28, 96, 46, 154, 0, 7, 4, 167, 0, 4, 3, 54, 5, 21, 4, 153, 0, 20]
abbrev dktX5_hoursBy_1 : List UInt8 := dkwX5_hoursBy_1 ++ dktX5_hoursBy_2
def dkwX5_hoursBy_0 : List UInt8 := [42, 180, 0, 13, 16, 55, 16, 6, 27, 104, 96, 28, 96, 46, 54, 4, 28, 29, 159, 0, 15, 42]
abbrev dktX5_hoursBy_0 : List UInt8 := dkwX5_hoursBy_0 ++ dktX5_hoursBy_1
theorem dksX5_hoursBy_0 : cX5_hoursBy.data.toList.drop 0 = dktX5_hoursBy_0 := by decide +kernel
theorem dksX5_hoursBy_1 : cX5_hoursBy.data.toList.drop 22 = dktX5_hoursBy_1 := dk_seg dksX5_hoursBy_0 22 rfl rfl
theorem dksX5_hoursBy_2 : cX5_hoursBy.data.toList.drop 45 = dktX5_hoursBy_2 := dk_seg dksX5_hoursBy_1 23 rfl rfl
theorem dksX5_hoursBy_3 : cX5_hoursBy.data.toList.drop 68 = dktX5_hoursBy_3 := dk_seg dksX5_hoursBy_2 23 rfl rfl
theorem dX5_hoursBy_0 : decode cX5_hoursBy 0 = .ok (.aload_n 0, 1) := dk_42 (dk_at dksX5_hoursBy_0 0 rfl rfl)
theorem dX5_hoursBy_1 : decode cX5_hoursBy 1 = .ok (.getfield 13, 3) := dk_180 0 13 (dk_at dksX5_hoursBy_0 1 rfl rfl)
theorem dX5_hoursBy_4 : decode cX5_hoursBy 4 = .ok (.bipush 55, 2) := dk_16 55 (dk_at dksX5_hoursBy_0 4 rfl rfl)
theorem dX5_hoursBy_6 : decode cX5_hoursBy 6 = .ok (.bipush 6, 2) := dk_16 6 (dk_at dksX5_hoursBy_0 6 rfl rfl)
theorem dX5_hoursBy_8 : decode cX5_hoursBy 8 = .ok (.iload_n 1, 1) := dk_27 (dk_at dksX5_hoursBy_0 8 rfl rfl)
theorem dX5_hoursBy_9 : decode cX5_hoursBy 9 = .ok (.imul, 1) := dk_104 (dk_at dksX5_hoursBy_0 9 rfl rfl)
theorem dX5_hoursBy_10 : decode cX5_hoursBy 10 = .ok (.iadd, 1) := dk_96 (dk_at dksX5_hoursBy_0 10 rfl rfl)
theorem dX5_hoursBy_11 : decode cX5_hoursBy 11 = .ok (.iload_n 2, 1) := dk_28 (dk_at dksX5_hoursBy_0 11 rfl rfl)
theorem dX5_hoursBy_12 : decode cX5_hoursBy 12 = .ok (.iadd, 1) := dk_96 (dk_at dksX5_hoursBy_0 12 rfl rfl)
theorem dX5_hoursBy_13 : decode cX5_hoursBy 13 = .ok (.iaload, 1) := dk_46 (dk_at dksX5_hoursBy_0 13 rfl rfl)
theorem dX5_hoursBy_14 : decode cX5_hoursBy 14 = .ok (.istore 4, 2) := dk_54 4 (dk_at dksX5_hoursBy_0 14 rfl rfl)
theorem dX5_hoursBy_16 : decode cX5_hoursBy 16 = .ok (.iload_n 2, 1) := dk_28 (dk_at dksX5_hoursBy_0 16 rfl rfl)
theorem dX5_hoursBy_17 : decode cX5_hoursBy 17 = .ok (.iload_n 3, 1) := dk_29 (dk_at dksX5_hoursBy_0 17 rfl rfl)
theorem dX5_hoursBy_18 : decode cX5_hoursBy 18 = .ok (.if_icmp .eq 15, 3) := dk_159 0 15 (dk_at dksX5_hoursBy_0 18 rfl rfl)
theorem dX5_hoursBy_21 : decode cX5_hoursBy 21 = .ok (.aload_n 0, 1) := dk_42 (dk_at dksX5_hoursBy_0 21 rfl rfl)
theorem dX5_hoursBy_22 : decode cX5_hoursBy 22 = .ok (.getfield 13, 3) := dk_180 0 13 (dk_at dksX5_hoursBy_1 0 rfl rfl)
theorem dX5_hoursBy_25 : decode cX5_hoursBy 25 = .ok (.bipush 25, 2) := dk_16 25 (dk_at dksX5_hoursBy_1 3 rfl rfl)
theorem dX5_hoursBy_27 : decode cX5_hoursBy 27 = .ok (.iload_n 2, 1) := dk_28 (dk_at dksX5_hoursBy_1 5 rfl rfl)
theorem dX5_hoursBy_28 : decode cX5_hoursBy 28 = .ok (.iadd, 1) := dk_96 (dk_at dksX5_hoursBy_1 6 rfl rfl)
theorem dX5_hoursBy_29 : decode cX5_hoursBy 29 = .ok (.iaload, 1) := dk_46 (dk_at dksX5_hoursBy_1 7 rfl rfl)
theorem dX5_hoursBy_30 : decode cX5_hoursBy 30 = .ok (.ifCond .ne 7, 3) := dk_154 0 7 (dk_at dksX5_hoursBy_1 8 rfl rfl)
theorem dX5_hoursBy_33 : decode cX5_hoursBy 33 = .ok (.iconst 1, 1) := dk_4 (dk_at dksX5_hoursBy_1 11 rfl rfl)
theorem dX5_hoursBy_34 : decode cX5_hoursBy 34 = .ok (.goto 4, 3) := dk_167 0 4 (dk_at dksX5_hoursBy_1 12 rfl rfl)
theorem dX5_hoursBy_37 : decode cX5_hoursBy 37 = .ok (.iconst 0, 1) := dk_3 (dk_at dksX5_hoursBy_1 15 rfl rfl)
theorem dX5_hoursBy_38 : decode cX5_hoursBy 38 = .ok (.istore 5, 2) := dk_54 5 (dk_at dksX5_hoursBy_1 16 rfl rfl)
theorem dX5_hoursBy_40 : decode cX5_hoursBy 40 = .ok (.iload 4, 2) := dk_21 4 (dk_at dksX5_hoursBy_1 18 rfl rfl)
theorem dX5_hoursBy_42 : decode cX5_hoursBy 42 = .ok (.ifCond .eq 20, 3) := dk_153 0 20 (dk_at dksX5_hoursBy_1 20 rfl rfl)
theorem dX5_hoursBy_45 : decode cX5_hoursBy 45 = .ok (.iload 5, 2) := dk_21 5 (dk_at dksX5_hoursBy_2 0 rfl rfl)
theorem dX5_hoursBy_47 : decode cX5_hoursBy 47 = .ok (.ifCond .eq 15, 3) := dk_153 0 15 (dk_at dksX5_hoursBy_2 2 rfl rfl)
theorem dX5_hoursBy_50 : decode cX5_hoursBy 50 = .ok (.aload_n 0, 1) := dk_42 (dk_at dksX5_hoursBy_2 5 rfl rfl)
theorem dX5_hoursBy_51 : decode cX5_hoursBy 51 = .ok (.getfield 110, 3) := dk_180 0 110 (dk_at dksX5_hoursBy_2 6 rfl rfl)
theorem dX5_hoursBy_54 : decode cX5_hoursBy 54 = .ok (.iload_n 2, 1) := dk_28 (dk_at dksX5_hoursBy_2 9 rfl rfl)
theorem dX5_hoursBy_55 : decode cX5_hoursBy 55 = .ok (.iaload, 1) := dk_46 (dk_at dksX5_hoursBy_2 10 rfl rfl)
theorem dX5_hoursBy_56 : decode cX5_hoursBy 56 = .ok (.ldc_w 446, 3) := dk_19 1 190 (dk_at dksX5_hoursBy_2 11 rfl rfl)
theorem dX5_hoursBy_59 : decode cX5_hoursBy 59 = .ok (.if_icmp .ne 9, 3) := dk_160 0 9 (dk_at dksX5_hoursBy_2 14 rfl rfl)
theorem dX5_hoursBy_62 : decode cX5_hoursBy 62 = .ok (.ldc_w 446, 3) := dk_19 1 190 (dk_at dksX5_hoursBy_2 17 rfl rfl)
theorem dX5_hoursBy_65 : decode cX5_hoursBy 65 = .ok (.goto 12, 3) := dk_167 0 12 (dk_at dksX5_hoursBy_2 20 rfl rfl)
theorem dX5_hoursBy_68 : decode cX5_hoursBy 68 = .ok (.iload 4, 2) := dk_21 4 (dk_at dksX5_hoursBy_3 0 rfl rfl)
theorem dX5_hoursBy_70 : decode cX5_hoursBy 70 = .ok (.aload_n 0, 1) := dk_42 (dk_at dksX5_hoursBy_3 2 rfl rfl)
theorem dX5_hoursBy_71 : decode cX5_hoursBy 71 = .ok (.getfield 110, 3) := dk_180 0 110 (dk_at dksX5_hoursBy_3 3 rfl rfl)
theorem dX5_hoursBy_74 : decode cX5_hoursBy 74 = .ok (.iload_n 2, 1) := dk_28 (dk_at dksX5_hoursBy_3 6 rfl rfl)
theorem dX5_hoursBy_75 : decode cX5_hoursBy 75 = .ok (.iaload, 1) := dk_46 (dk_at dksX5_hoursBy_3 7 rfl rfl)
theorem dX5_hoursBy_76 : decode cX5_hoursBy 76 = .ok (.iadd, 1) := dk_96 (dk_at dksX5_hoursBy_3 8 rfl rfl)
theorem dX5_hoursBy_77 : decode cX5_hoursBy 77 = .ok (.ireturn, 1) := dk_172 (dk_at dksX5_hoursBy_3 9 rfl rfl)
abbrev cX5_game : ByteArray := prog_22_method_89_code
def yX5_game : MethodName := ⟨RX5, "game", "(IIIII)I"⟩
def dkwX5_game_12 : List UInt8 := [29, 104, 100, 21, 10, 21, 5, 5, 160, 0, 7, 4, 167, 0, 4, 3, 184, 1, 205, 172]
abbrev dktX5_game_12 : List UInt8 := dkwX5_game_12 ++ []
def dkwX5_game_11 : List UInt8 := [100, 21, 10, 21, 5, 154, 0, 7, 4, 167, 0, 4, 3, 184, 1, 205, 167, 0, 27, 27, 21, 4, 104, 28]
abbrev dktX5_game_11 : List UInt8 := dkwX5_game_11 ++ dktX5_game_12
def dkwX5_game_10 : List UInt8 := [167, 0, 4, 4, 172, 27, 28, 100, 21, 4, 96, 29, 100, 54, 10, 21, 5, 5, 162, 0, 25, 21, 4, 29]
abbrev dktX5_game_10 : List UInt8 := dkwX5_game_10 ++ dktX5_game_11
def dkwX5_game_9 : List UInt8 := [154, 0, 8, 21, 7, 153, 0, 7, 4, 167, 0, 19, 3, 167, 0, 15, 21, 5, 5, 160, 0, 8, 21, 10]
abbrev dktX5_game_9 : List UInt8 := dkwX5_game_9 ++ dktX5_game_10
def dkwX5_game_8 : List UInt8 := [167, 0, 14, 21, 8, 153, 0, 7, 29, 167, 0, 5, 21, 4, 54, 10, 21, 5, 154, 0, 21, 21, 6]
abbrev dktX5_game_8 : List UInt8 := dkwX5_game_8 ++ dktX5_game_9
def dkwX5_game_7 : List UInt8 := [154, 0, 8, 21, 9, 153, 0, 70, 21, 6, 153, 0, 7, 27, 167, 0, 23, 21, 7, 153, 0, 7, 28]
abbrev dktX5_game_7 : List UInt8 := dkwX5_game_7 ++ dktX5_game_8
def dkwX5_game_6 : List UInt8 := [161, 0, 7, 4, 167, 0, 4, 3, 54, 9, 21, 6, 154, 0, 18, 21, 7, 154, 0, 13, 21, 8]
abbrev dktX5_game_6 : List UInt8 := dkwX5_game_6 ++ dktX5_game_7
def dkwX5_game_5 : List UInt8 := [163, 0, 12, 29, 27, 161, 0, 7, 4, 167, 0, 4, 3, 54, 8, 21, 4, 29, 163, 0, 13, 21, 4, 28]
abbrev dktX5_game_5 : List UInt8 := dkwX5_game_5 ++ dktX5_game_6
def dkwX5_game_4 : List UInt8 := [3, 54, 6, 28, 27, 163, 0, 13, 28, 21, 4, 161, 0, 7, 4, 167, 0, 4, 3, 54, 7, 29, 21, 4]
abbrev dktX5_game_4 : List UInt8 := dkwX5_game_4 ++ dktX5_game_5
def dkwX5_game_3 : List UInt8 := [184, 0, 162, 154, 0, 7, 19, 1, 204, 172, 27, 28, 163, 0, 12, 27, 29, 161, 0, 7, 4, 167, 0, 4]
abbrev dktX5_game_3 : List UInt8 := dkwX5_game_3 ++ dktX5_game_4
def dkwX5_game_2 : List UInt8 := [21, 4, 133, 20, 1, 176, 20, 0, 187, 184, 0, 162, 153, 0, 16, 21, 5, 133, 9, 20, 0, 189]
abbrev dktX5_game_2 : List UInt8 := dkwX5_game_2 ++ dktX5_game_3
def dkwX5_game_1 : List UInt8 := [20, 0, 187, 184, 0, 162, 153, 0, 45, 29, 133, 20, 1, 176, 20, 0, 187, 184, 0, 162, 153, 0, 31]
abbrev dktX5_game_1 : List UInt8 := dkwX5_game_1 ++ dktX5_game_2
def dkwX5_game_0 : List UInt8 := [42, 3, 181, 0, 142, 27, 133, 20, 1, 176, 20, 0, 187, 184, 0, 162, 153, 0, 59, 28, 133, 20, 1, 176]
abbrev dktX5_game_0 : List UInt8 := dkwX5_game_0 ++ dktX5_game_1
theorem dksX5_game_0 : cX5_game.data.toList.drop 0 = dktX5_game_0 := by decide +kernel
theorem dksX5_game_1 : cX5_game.data.toList.drop 24 = dktX5_game_1 := dk_seg dksX5_game_0 24 rfl rfl
theorem dksX5_game_2 : cX5_game.data.toList.drop 47 = dktX5_game_2 := dk_seg dksX5_game_1 23 rfl rfl
theorem dksX5_game_3 : cX5_game.data.toList.drop 69 = dktX5_game_3 := dk_seg dksX5_game_2 22 rfl rfl
theorem dksX5_game_4 : cX5_game.data.toList.drop 93 = dktX5_game_4 := dk_seg dksX5_game_3 24 rfl rfl
theorem dksX5_game_5 : cX5_game.data.toList.drop 117 = dktX5_game_5 := dk_seg dksX5_game_4 24 rfl rfl
theorem dksX5_game_6 : cX5_game.data.toList.drop 141 = dktX5_game_6 := dk_seg dksX5_game_5 24 rfl rfl
theorem dksX5_game_7 : cX5_game.data.toList.drop 163 = dktX5_game_7 := dk_seg dksX5_game_6 22 rfl rfl
theorem dksX5_game_8 : cX5_game.data.toList.drop 186 = dktX5_game_8 := dk_seg dksX5_game_7 23 rfl rfl
theorem dksX5_game_9 : cX5_game.data.toList.drop 209 = dktX5_game_9 := dk_seg dksX5_game_8 23 rfl rfl
theorem dksX5_game_10 : cX5_game.data.toList.drop 233 = dktX5_game_10 := dk_seg dksX5_game_9 24 rfl rfl
theorem dksX5_game_11 : cX5_game.data.toList.drop 257 = dktX5_game_11 := dk_seg dksX5_game_10 24 rfl rfl
theorem dksX5_game_12 : cX5_game.data.toList.drop 281 = dktX5_game_12 := dk_seg dksX5_game_11 24 rfl rfl
theorem dX5_game_0 : decode cX5_game 0 = .ok (.aload_n 0, 1) := dk_42 (dk_at dksX5_game_0 0 rfl rfl)
theorem dX5_game_1 : decode cX5_game 1 = .ok (.iconst 0, 1) := dk_3 (dk_at dksX5_game_0 1 rfl rfl)
theorem dX5_game_2 : decode cX5_game 2 = .ok (.putfield 142, 3) := dk_181 0 142 (dk_at dksX5_game_0 2 rfl rfl)
theorem dX5_game_5 : decode cX5_game 5 = .ok (.iload_n 1, 1) := dk_27 (dk_at dksX5_game_0 5 rfl rfl)
theorem dX5_game_6 : decode cX5_game 6 = .ok (.i2l, 1) := dk_133 (dk_at dksX5_game_0 6 rfl rfl)
theorem dX5_game_7 : decode cX5_game 7 = .ok (.ldc2_w 432, 3) := dk_20 1 176 (dk_at dksX5_game_0 7 rfl rfl)
theorem dX5_game_10 : decode cX5_game 10 = .ok (.ldc2_w 187, 3) := dk_20 0 187 (dk_at dksX5_game_0 10 rfl rfl)
theorem dX5_game_13 : decode cX5_game 13 = .ok (.invokestatic 162, 3) := dk_184 0 162 (dk_at dksX5_game_0 13 rfl rfl)
theorem dX5_game_16 : decode cX5_game 16 = .ok (.ifCond .eq 59, 3) := dk_153 0 59 (dk_at dksX5_game_0 16 rfl rfl)
theorem dX5_game_19 : decode cX5_game 19 = .ok (.iload_n 2, 1) := dk_28 (dk_at dksX5_game_0 19 rfl rfl)
theorem dX5_game_20 : decode cX5_game 20 = .ok (.i2l, 1) := dk_133 (dk_at dksX5_game_0 20 rfl rfl)
theorem dX5_game_21 : decode cX5_game 21 = .ok (.ldc2_w 432, 3) := dk_20 1 176 (dk_at dksX5_game_0 21 rfl rfl)
theorem dX5_game_24 : decode cX5_game 24 = .ok (.ldc2_w 187, 3) := dk_20 0 187 (dk_at dksX5_game_1 0 rfl rfl)
theorem dX5_game_27 : decode cX5_game 27 = .ok (.invokestatic 162, 3) := dk_184 0 162 (dk_at dksX5_game_1 3 rfl rfl)
theorem dX5_game_30 : decode cX5_game 30 = .ok (.ifCond .eq 45, 3) := dk_153 0 45 (dk_at dksX5_game_1 6 rfl rfl)
theorem dX5_game_33 : decode cX5_game 33 = .ok (.iload_n 3, 1) := dk_29 (dk_at dksX5_game_1 9 rfl rfl)
theorem dX5_game_34 : decode cX5_game 34 = .ok (.i2l, 1) := dk_133 (dk_at dksX5_game_1 10 rfl rfl)
theorem dX5_game_35 : decode cX5_game 35 = .ok (.ldc2_w 432, 3) := dk_20 1 176 (dk_at dksX5_game_1 11 rfl rfl)
theorem dX5_game_38 : decode cX5_game 38 = .ok (.ldc2_w 187, 3) := dk_20 0 187 (dk_at dksX5_game_1 14 rfl rfl)
theorem dX5_game_41 : decode cX5_game 41 = .ok (.invokestatic 162, 3) := dk_184 0 162 (dk_at dksX5_game_1 17 rfl rfl)
theorem dX5_game_44 : decode cX5_game 44 = .ok (.ifCond .eq 31, 3) := dk_153 0 31 (dk_at dksX5_game_1 20 rfl rfl)
theorem dX5_game_47 : decode cX5_game 47 = .ok (.iload 4, 2) := dk_21 4 (dk_at dksX5_game_2 0 rfl rfl)
theorem dX5_game_49 : decode cX5_game 49 = .ok (.i2l, 1) := dk_133 (dk_at dksX5_game_2 2 rfl rfl)
theorem dX5_game_50 : decode cX5_game 50 = .ok (.ldc2_w 432, 3) := dk_20 1 176 (dk_at dksX5_game_2 3 rfl rfl)
theorem dX5_game_53 : decode cX5_game 53 = .ok (.ldc2_w 187, 3) := dk_20 0 187 (dk_at dksX5_game_2 6 rfl rfl)
theorem dX5_game_56 : decode cX5_game 56 = .ok (.invokestatic 162, 3) := dk_184 0 162 (dk_at dksX5_game_2 9 rfl rfl)
theorem dX5_game_59 : decode cX5_game 59 = .ok (.ifCond .eq 16, 3) := dk_153 0 16 (dk_at dksX5_game_2 12 rfl rfl)
theorem dX5_game_62 : decode cX5_game 62 = .ok (.iload 5, 2) := dk_21 5 (dk_at dksX5_game_2 15 rfl rfl)
theorem dX5_game_64 : decode cX5_game 64 = .ok (.i2l, 1) := dk_133 (dk_at dksX5_game_2 17 rfl rfl)
theorem dX5_game_65 : decode cX5_game 65 = .ok (.lconst 0, 1) := dk_9 (dk_at dksX5_game_2 18 rfl rfl)
theorem dX5_game_66 : decode cX5_game 66 = .ok (.ldc2_w 189, 3) := dk_20 0 189 (dk_at dksX5_game_2 19 rfl rfl)
theorem dX5_game_69 : decode cX5_game 69 = .ok (.invokestatic 162, 3) := dk_184 0 162 (dk_at dksX5_game_3 0 rfl rfl)
theorem dX5_game_72 : decode cX5_game 72 = .ok (.ifCond .ne 7, 3) := dk_154 0 7 (dk_at dksX5_game_3 3 rfl rfl)
theorem dX5_game_75 : decode cX5_game 75 = .ok (.ldc_w 460, 3) := dk_19 1 204 (dk_at dksX5_game_3 6 rfl rfl)
theorem dX5_game_78 : decode cX5_game 78 = .ok (.ireturn, 1) := dk_172 (dk_at dksX5_game_3 9 rfl rfl)
theorem dX5_game_79 : decode cX5_game 79 = .ok (.iload_n 1, 1) := dk_27 (dk_at dksX5_game_3 10 rfl rfl)
theorem dX5_game_80 : decode cX5_game 80 = .ok (.iload_n 2, 1) := dk_28 (dk_at dksX5_game_3 11 rfl rfl)
theorem dX5_game_81 : decode cX5_game 81 = .ok (.if_icmp .gt 12, 3) := dk_163 0 12 (dk_at dksX5_game_3 12 rfl rfl)
theorem dX5_game_84 : decode cX5_game 84 = .ok (.iload_n 1, 1) := dk_27 (dk_at dksX5_game_3 15 rfl rfl)
theorem dX5_game_85 : decode cX5_game 85 = .ok (.iload_n 3, 1) := dk_29 (dk_at dksX5_game_3 16 rfl rfl)
theorem dX5_game_86 : decode cX5_game 86 = .ok (.if_icmp .lt 7, 3) := dk_161 0 7 (dk_at dksX5_game_3 17 rfl rfl)
theorem dX5_game_89 : decode cX5_game 89 = .ok (.iconst 1, 1) := dk_4 (dk_at dksX5_game_3 20 rfl rfl)
theorem dX5_game_90 : decode cX5_game 90 = .ok (.goto 4, 3) := dk_167 0 4 (dk_at dksX5_game_3 21 rfl rfl)
theorem dX5_game_93 : decode cX5_game 93 = .ok (.iconst 0, 1) := dk_3 (dk_at dksX5_game_4 0 rfl rfl)
theorem dX5_game_94 : decode cX5_game 94 = .ok (.istore 6, 2) := dk_54 6 (dk_at dksX5_game_4 1 rfl rfl)
theorem dX5_game_96 : decode cX5_game 96 = .ok (.iload_n 2, 1) := dk_28 (dk_at dksX5_game_4 3 rfl rfl)
theorem dX5_game_97 : decode cX5_game 97 = .ok (.iload_n 1, 1) := dk_27 (dk_at dksX5_game_4 4 rfl rfl)
theorem dX5_game_98 : decode cX5_game 98 = .ok (.if_icmp .gt 13, 3) := dk_163 0 13 (dk_at dksX5_game_4 5 rfl rfl)
theorem dX5_game_101 : decode cX5_game 101 = .ok (.iload_n 2, 1) := dk_28 (dk_at dksX5_game_4 8 rfl rfl)
theorem dX5_game_102 : decode cX5_game 102 = .ok (.iload 4, 2) := dk_21 4 (dk_at dksX5_game_4 9 rfl rfl)
theorem dX5_game_104 : decode cX5_game 104 = .ok (.if_icmp .lt 7, 3) := dk_161 0 7 (dk_at dksX5_game_4 11 rfl rfl)
theorem dX5_game_107 : decode cX5_game 107 = .ok (.iconst 1, 1) := dk_4 (dk_at dksX5_game_4 14 rfl rfl)
theorem dX5_game_108 : decode cX5_game 108 = .ok (.goto 4, 3) := dk_167 0 4 (dk_at dksX5_game_4 15 rfl rfl)
theorem dX5_game_111 : decode cX5_game 111 = .ok (.iconst 0, 1) := dk_3 (dk_at dksX5_game_4 18 rfl rfl)
theorem dX5_game_112 : decode cX5_game 112 = .ok (.istore 7, 2) := dk_54 7 (dk_at dksX5_game_4 19 rfl rfl)
theorem dX5_game_114 : decode cX5_game 114 = .ok (.iload_n 3, 1) := dk_29 (dk_at dksX5_game_4 21 rfl rfl)
theorem dX5_game_115 : decode cX5_game 115 = .ok (.iload 4, 2) := dk_21 4 (dk_at dksX5_game_4 22 rfl rfl)
theorem dX5_game_117 : decode cX5_game 117 = .ok (.if_icmp .gt 12, 3) := dk_163 0 12 (dk_at dksX5_game_5 0 rfl rfl)
theorem dX5_game_120 : decode cX5_game 120 = .ok (.iload_n 3, 1) := dk_29 (dk_at dksX5_game_5 3 rfl rfl)
theorem dX5_game_121 : decode cX5_game 121 = .ok (.iload_n 1, 1) := dk_27 (dk_at dksX5_game_5 4 rfl rfl)
theorem dX5_game_122 : decode cX5_game 122 = .ok (.if_icmp .lt 7, 3) := dk_161 0 7 (dk_at dksX5_game_5 5 rfl rfl)
theorem dX5_game_125 : decode cX5_game 125 = .ok (.iconst 1, 1) := dk_4 (dk_at dksX5_game_5 8 rfl rfl)
theorem dX5_game_126 : decode cX5_game 126 = .ok (.goto 4, 3) := dk_167 0 4 (dk_at dksX5_game_5 9 rfl rfl)
theorem dX5_game_129 : decode cX5_game 129 = .ok (.iconst 0, 1) := dk_3 (dk_at dksX5_game_5 12 rfl rfl)
theorem dX5_game_130 : decode cX5_game 130 = .ok (.istore 8, 2) := dk_54 8 (dk_at dksX5_game_5 13 rfl rfl)
theorem dX5_game_132 : decode cX5_game 132 = .ok (.iload 4, 2) := dk_21 4 (dk_at dksX5_game_5 15 rfl rfl)
theorem dX5_game_134 : decode cX5_game 134 = .ok (.iload_n 3, 1) := dk_29 (dk_at dksX5_game_5 17 rfl rfl)
theorem dX5_game_135 : decode cX5_game 135 = .ok (.if_icmp .gt 13, 3) := dk_163 0 13 (dk_at dksX5_game_5 18 rfl rfl)
theorem dX5_game_138 : decode cX5_game 138 = .ok (.iload 4, 2) := dk_21 4 (dk_at dksX5_game_5 21 rfl rfl)
theorem dX5_game_140 : decode cX5_game 140 = .ok (.iload_n 2, 1) := dk_28 (dk_at dksX5_game_5 23 rfl rfl)
theorem dX5_game_141 : decode cX5_game 141 = .ok (.if_icmp .lt 7, 3) := dk_161 0 7 (dk_at dksX5_game_6 0 rfl rfl)
theorem dX5_game_144 : decode cX5_game 144 = .ok (.iconst 1, 1) := dk_4 (dk_at dksX5_game_6 3 rfl rfl)
theorem dX5_game_145 : decode cX5_game 145 = .ok (.goto 4, 3) := dk_167 0 4 (dk_at dksX5_game_6 4 rfl rfl)
theorem dX5_game_148 : decode cX5_game 148 = .ok (.iconst 0, 1) := dk_3 (dk_at dksX5_game_6 7 rfl rfl)
theorem dX5_game_149 : decode cX5_game 149 = .ok (.istore 9, 2) := dk_54 9 (dk_at dksX5_game_6 8 rfl rfl)
theorem dX5_game_151 : decode cX5_game 151 = .ok (.iload 6, 2) := dk_21 6 (dk_at dksX5_game_6 10 rfl rfl)
theorem dX5_game_153 : decode cX5_game 153 = .ok (.ifCond .ne 18, 3) := dk_154 0 18 (dk_at dksX5_game_6 12 rfl rfl)
theorem dX5_game_156 : decode cX5_game 156 = .ok (.iload 7, 2) := dk_21 7 (dk_at dksX5_game_6 15 rfl rfl)
theorem dX5_game_158 : decode cX5_game 158 = .ok (.ifCond .ne 13, 3) := dk_154 0 13 (dk_at dksX5_game_6 17 rfl rfl)
theorem dX5_game_161 : decode cX5_game 161 = .ok (.iload 8, 2) := dk_21 8 (dk_at dksX5_game_6 20 rfl rfl)
theorem dX5_game_163 : decode cX5_game 163 = .ok (.ifCond .ne 8, 3) := dk_154 0 8 (dk_at dksX5_game_7 0 rfl rfl)
theorem dX5_game_166 : decode cX5_game 166 = .ok (.iload 9, 2) := dk_21 9 (dk_at dksX5_game_7 3 rfl rfl)
theorem dX5_game_168 : decode cX5_game 168 = .ok (.ifCond .eq 70, 3) := dk_153 0 70 (dk_at dksX5_game_7 5 rfl rfl)
theorem dX5_game_171 : decode cX5_game 171 = .ok (.iload 6, 2) := dk_21 6 (dk_at dksX5_game_7 8 rfl rfl)
theorem dX5_game_173 : decode cX5_game 173 = .ok (.ifCond .eq 7, 3) := dk_153 0 7 (dk_at dksX5_game_7 10 rfl rfl)
theorem dX5_game_176 : decode cX5_game 176 = .ok (.iload_n 1, 1) := dk_27 (dk_at dksX5_game_7 13 rfl rfl)
theorem dX5_game_177 : decode cX5_game 177 = .ok (.goto 23, 3) := dk_167 0 23 (dk_at dksX5_game_7 14 rfl rfl)
theorem dX5_game_180 : decode cX5_game 180 = .ok (.iload 7, 2) := dk_21 7 (dk_at dksX5_game_7 17 rfl rfl)
theorem dX5_game_182 : decode cX5_game 182 = .ok (.ifCond .eq 7, 3) := dk_153 0 7 (dk_at dksX5_game_7 19 rfl rfl)
theorem dX5_game_185 : decode cX5_game 185 = .ok (.iload_n 2, 1) := dk_28 (dk_at dksX5_game_7 22 rfl rfl)
theorem dX5_game_186 : decode cX5_game 186 = .ok (.goto 14, 3) := dk_167 0 14 (dk_at dksX5_game_8 0 rfl rfl)
theorem dX5_game_189 : decode cX5_game 189 = .ok (.iload 8, 2) := dk_21 8 (dk_at dksX5_game_8 3 rfl rfl)
theorem dX5_game_191 : decode cX5_game 191 = .ok (.ifCond .eq 7, 3) := dk_153 0 7 (dk_at dksX5_game_8 5 rfl rfl)
theorem dX5_game_194 : decode cX5_game 194 = .ok (.iload_n 3, 1) := dk_29 (dk_at dksX5_game_8 8 rfl rfl)
theorem dX5_game_195 : decode cX5_game 195 = .ok (.goto 5, 3) := dk_167 0 5 (dk_at dksX5_game_8 9 rfl rfl)
theorem dX5_game_198 : decode cX5_game 198 = .ok (.iload 4, 2) := dk_21 4 (dk_at dksX5_game_8 12 rfl rfl)
theorem dX5_game_200 : decode cX5_game 200 = .ok (.istore 10, 2) := dk_54 10 (dk_at dksX5_game_8 14 rfl rfl)
theorem dX5_game_202 : decode cX5_game 202 = .ok (.iload 5, 2) := dk_21 5 (dk_at dksX5_game_8 16 rfl rfl)
theorem dX5_game_204 : decode cX5_game 204 = .ok (.ifCond .ne 21, 3) := dk_154 0 21 (dk_at dksX5_game_8 18 rfl rfl)
theorem dX5_game_207 : decode cX5_game 207 = .ok (.iload 6, 2) := dk_21 6 (dk_at dksX5_game_8 21 rfl rfl)
theorem dX5_game_209 : decode cX5_game 209 = .ok (.ifCond .ne 8, 3) := dk_154 0 8 (dk_at dksX5_game_9 0 rfl rfl)
theorem dX5_game_212 : decode cX5_game 212 = .ok (.iload 7, 2) := dk_21 7 (dk_at dksX5_game_9 3 rfl rfl)
theorem dX5_game_214 : decode cX5_game 214 = .ok (.ifCond .eq 7, 3) := dk_153 0 7 (dk_at dksX5_game_9 5 rfl rfl)
theorem dX5_game_217 : decode cX5_game 217 = .ok (.iconst 1, 1) := dk_4 (dk_at dksX5_game_9 8 rfl rfl)
theorem dX5_game_218 : decode cX5_game 218 = .ok (.goto 19, 3) := dk_167 0 19 (dk_at dksX5_game_9 9 rfl rfl)
theorem dX5_game_221 : decode cX5_game 221 = .ok (.iconst 0, 1) := dk_3 (dk_at dksX5_game_9 12 rfl rfl)
theorem dX5_game_222 : decode cX5_game 222 = .ok (.goto 15, 3) := dk_167 0 15 (dk_at dksX5_game_9 13 rfl rfl)
theorem dX5_game_225 : decode cX5_game 225 = .ok (.iload 5, 2) := dk_21 5 (dk_at dksX5_game_9 16 rfl rfl)
theorem dX5_game_227 : decode cX5_game 227 = .ok (.iconst 2, 1) := dk_5 (dk_at dksX5_game_9 18 rfl rfl)
theorem dX5_game_228 : decode cX5_game 228 = .ok (.if_icmp .ne 8, 3) := dk_160 0 8 (dk_at dksX5_game_9 19 rfl rfl)
theorem dX5_game_231 : decode cX5_game 231 = .ok (.iload 10, 2) := dk_21 10 (dk_at dksX5_game_9 22 rfl rfl)
theorem dX5_game_233 : decode cX5_game 233 = .ok (.goto 4, 3) := dk_167 0 4 (dk_at dksX5_game_10 0 rfl rfl)
theorem dX5_game_236 : decode cX5_game 236 = .ok (.iconst 1, 1) := dk_4 (dk_at dksX5_game_10 3 rfl rfl)
theorem dX5_game_237 : decode cX5_game 237 = .ok (.ireturn, 1) := dk_172 (dk_at dksX5_game_10 4 rfl rfl)
theorem dX5_game_238 : decode cX5_game 238 = .ok (.iload_n 1, 1) := dk_27 (dk_at dksX5_game_10 5 rfl rfl)
theorem dX5_game_239 : decode cX5_game 239 = .ok (.iload_n 2, 1) := dk_28 (dk_at dksX5_game_10 6 rfl rfl)
theorem dX5_game_240 : decode cX5_game 240 = .ok (.isub, 1) := dk_100 (dk_at dksX5_game_10 7 rfl rfl)
theorem dX5_game_241 : decode cX5_game 241 = .ok (.iload 4, 2) := dk_21 4 (dk_at dksX5_game_10 8 rfl rfl)
theorem dX5_game_243 : decode cX5_game 243 = .ok (.iadd, 1) := dk_96 (dk_at dksX5_game_10 10 rfl rfl)
theorem dX5_game_244 : decode cX5_game 244 = .ok (.iload_n 3, 1) := dk_29 (dk_at dksX5_game_10 11 rfl rfl)
theorem dX5_game_245 : decode cX5_game 245 = .ok (.isub, 1) := dk_100 (dk_at dksX5_game_10 12 rfl rfl)
theorem dX5_game_246 : decode cX5_game 246 = .ok (.istore 10, 2) := dk_54 10 (dk_at dksX5_game_10 13 rfl rfl)
theorem dX5_game_248 : decode cX5_game 248 = .ok (.iload 5, 2) := dk_21 5 (dk_at dksX5_game_10 15 rfl rfl)
theorem dX5_game_250 : decode cX5_game 250 = .ok (.iconst 2, 1) := dk_5 (dk_at dksX5_game_10 17 rfl rfl)
theorem dX5_game_251 : decode cX5_game 251 = .ok (.if_icmp .ge 25, 3) := dk_162 0 25 (dk_at dksX5_game_10 18 rfl rfl)
theorem dX5_game_254 : decode cX5_game 254 = .ok (.iload 4, 2) := dk_21 4 (dk_at dksX5_game_10 21 rfl rfl)
theorem dX5_game_256 : decode cX5_game 256 = .ok (.iload_n 3, 1) := dk_29 (dk_at dksX5_game_10 23 rfl rfl)
theorem dX5_game_257 : decode cX5_game 257 = .ok (.isub, 1) := dk_100 (dk_at dksX5_game_11 0 rfl rfl)
theorem dX5_game_258 : decode cX5_game 258 = .ok (.iload 10, 2) := dk_21 10 (dk_at dksX5_game_11 1 rfl rfl)
theorem dX5_game_260 : decode cX5_game 260 = .ok (.iload 5, 2) := dk_21 5 (dk_at dksX5_game_11 3 rfl rfl)
theorem dX5_game_262 : decode cX5_game 262 = .ok (.ifCond .ne 7, 3) := dk_154 0 7 (dk_at dksX5_game_11 5 rfl rfl)
theorem dX5_game_265 : decode cX5_game 265 = .ok (.iconst 1, 1) := dk_4 (dk_at dksX5_game_11 8 rfl rfl)
theorem dX5_game_266 : decode cX5_game 266 = .ok (.goto 4, 3) := dk_167 0 4 (dk_at dksX5_game_11 9 rfl rfl)
theorem dX5_game_269 : decode cX5_game 269 = .ok (.iconst 0, 1) := dk_3 (dk_at dksX5_game_11 12 rfl rfl)
theorem dX5_game_270 : decode cX5_game 270 = .ok (.invokestatic 461, 3) := dk_184 1 205 (dk_at dksX5_game_11 13 rfl rfl)
theorem dX5_game_273 : decode cX5_game 273 = .ok (.goto 27, 3) := dk_167 0 27 (dk_at dksX5_game_11 16 rfl rfl)
theorem dX5_game_276 : decode cX5_game 276 = .ok (.iload_n 1, 1) := dk_27 (dk_at dksX5_game_11 19 rfl rfl)
theorem dX5_game_277 : decode cX5_game 277 = .ok (.iload 4, 2) := dk_21 4 (dk_at dksX5_game_11 20 rfl rfl)
theorem dX5_game_279 : decode cX5_game 279 = .ok (.imul, 1) := dk_104 (dk_at dksX5_game_11 22 rfl rfl)
theorem dX5_game_280 : decode cX5_game 280 = .ok (.iload_n 2, 1) := dk_28 (dk_at dksX5_game_11 23 rfl rfl)
theorem dX5_game_281 : decode cX5_game 281 = .ok (.iload_n 3, 1) := dk_29 (dk_at dksX5_game_12 0 rfl rfl)
theorem dX5_game_282 : decode cX5_game 282 = .ok (.imul, 1) := dk_104 (dk_at dksX5_game_12 1 rfl rfl)
theorem dX5_game_283 : decode cX5_game 283 = .ok (.isub, 1) := dk_100 (dk_at dksX5_game_12 2 rfl rfl)
theorem dX5_game_284 : decode cX5_game 284 = .ok (.iload 10, 2) := dk_21 10 (dk_at dksX5_game_12 3 rfl rfl)
theorem dX5_game_286 : decode cX5_game 286 = .ok (.iload 5, 2) := dk_21 5 (dk_at dksX5_game_12 5 rfl rfl)
theorem dX5_game_288 : decode cX5_game 288 = .ok (.iconst 2, 1) := dk_5 (dk_at dksX5_game_12 7 rfl rfl)
theorem dX5_game_289 : decode cX5_game 289 = .ok (.if_icmp .ne 7, 3) := dk_160 0 7 (dk_at dksX5_game_12 8 rfl rfl)
theorem dX5_game_292 : decode cX5_game 292 = .ok (.iconst 1, 1) := dk_4 (dk_at dksX5_game_12 11 rfl rfl)
theorem dX5_game_293 : decode cX5_game 293 = .ok (.goto 4, 3) := dk_167 0 4 (dk_at dksX5_game_12 12 rfl rfl)
theorem dX5_game_296 : decode cX5_game 296 = .ok (.iconst 0, 1) := dk_3 (dk_at dksX5_game_12 15 rfl rfl)
theorem dX5_game_297 : decode cX5_game 297 = .ok (.invokestatic 461, 3) := dk_184 1 205 (dk_at dksX5_game_12 16 rfl rfl)
theorem dX5_game_300 : decode cX5_game 300 = .ok (.ireturn, 1) := dk_172 (dk_at dksX5_game_12 19 rfl rfl)
abbrev cX5_lowest : ByteArray := prog_22_method_88_code
def yX5_lowest : MethodName := ⟨RX5, "lowest", "(IIZ)I"⟩
def dkwX5_lowest_1 : List UInt8 := [167, 0, 4, 27, 29, 108, 21, 4, 104, 172]
abbrev dktX5_lowest_1 : List UInt8 := dkwX5_lowest_1 ++ []
def dkwX5_lowest_0 : List UInt8 := [26, 27, 184, 1, 201, 62, 27, 156, 0, 7, 2, 167, 0, 4, 4, 54, 4, 28, 153, 0, 7, 26]
abbrev dktX5_lowest_0 : List UInt8 := dkwX5_lowest_0 ++ dktX5_lowest_1
theorem dksX5_lowest_0 : cX5_lowest.data.toList.drop 0 = dktX5_lowest_0 := by decide +kernel
theorem dksX5_lowest_1 : cX5_lowest.data.toList.drop 22 = dktX5_lowest_1 := dk_seg dksX5_lowest_0 22 rfl rfl
theorem dX5_lowest_0 : decode cX5_lowest 0 = .ok (.iload_n 0, 1) := dk_26 (dk_at dksX5_lowest_0 0 rfl rfl)
theorem dX5_lowest_1 : decode cX5_lowest 1 = .ok (.iload_n 1, 1) := dk_27 (dk_at dksX5_lowest_0 1 rfl rfl)
theorem dX5_lowest_2 : decode cX5_lowest 2 = .ok (.invokestatic 457, 3) := dk_184 1 201 (dk_at dksX5_lowest_0 2 rfl rfl)
theorem dX5_lowest_5 : decode cX5_lowest 5 = .ok (.istore_n 3, 1) := dk_62 (dk_at dksX5_lowest_0 5 rfl rfl)
theorem dX5_lowest_6 : decode cX5_lowest 6 = .ok (.iload_n 1, 1) := dk_27 (dk_at dksX5_lowest_0 6 rfl rfl)
theorem dX5_lowest_7 : decode cX5_lowest 7 = .ok (.ifCond .ge 7, 3) := dk_156 0 7 (dk_at dksX5_lowest_0 7 rfl rfl)
theorem dX5_lowest_10 : decode cX5_lowest 10 = .ok (.iconst (-1), 1) := dk_2 (dk_at dksX5_lowest_0 10 rfl rfl)
theorem dX5_lowest_11 : decode cX5_lowest 11 = .ok (.goto 4, 3) := dk_167 0 4 (dk_at dksX5_lowest_0 11 rfl rfl)
theorem dX5_lowest_14 : decode cX5_lowest 14 = .ok (.iconst 1, 1) := dk_4 (dk_at dksX5_lowest_0 14 rfl rfl)
theorem dX5_lowest_15 : decode cX5_lowest 15 = .ok (.istore 4, 2) := dk_54 4 (dk_at dksX5_lowest_0 15 rfl rfl)
theorem dX5_lowest_17 : decode cX5_lowest 17 = .ok (.iload_n 2, 1) := dk_28 (dk_at dksX5_lowest_0 17 rfl rfl)
theorem dX5_lowest_18 : decode cX5_lowest 18 = .ok (.ifCond .eq 7, 3) := dk_153 0 7 (dk_at dksX5_lowest_0 18 rfl rfl)
theorem dX5_lowest_21 : decode cX5_lowest 21 = .ok (.iload_n 0, 1) := dk_26 (dk_at dksX5_lowest_0 21 rfl rfl)
theorem dX5_lowest_22 : decode cX5_lowest 22 = .ok (.goto 4, 3) := dk_167 0 4 (dk_at dksX5_lowest_1 0 rfl rfl)
theorem dX5_lowest_25 : decode cX5_lowest 25 = .ok (.iload_n 1, 1) := dk_27 (dk_at dksX5_lowest_1 3 rfl rfl)
theorem dX5_lowest_26 : decode cX5_lowest 26 = .ok (.iload_n 3, 1) := dk_29 (dk_at dksX5_lowest_1 4 rfl rfl)
theorem dX5_lowest_27 : decode cX5_lowest 27 = .ok (.idiv, 1) := dk_108 (dk_at dksX5_lowest_1 5 rfl rfl)
theorem dX5_lowest_28 : decode cX5_lowest 28 = .ok (.iload 4, 2) := dk_21 4 (dk_at dksX5_lowest_1 6 rfl rfl)
theorem dX5_lowest_30 : decode cX5_lowest 30 = .ok (.imul, 1) := dk_104 (dk_at dksX5_lowest_1 8 rfl rfl)
theorem dX5_lowest_31 : decode cX5_lowest 31 = .ok (.ireturn, 1) := dk_172 (dk_at dksX5_lowest_1 9 rfl rfl)
abbrev cX5_common : ByteArray := prog_22_method_87_code
def yX5_common : MethodName := ⟨RX5, "common", "(II)I"⟩
def dkwX5_common_1 : List UInt8 := [153, 0, 16, 28, 29, 112, 54, 4, 29, 61, 21, 4, 62, 167, 255, 242, 28, 172]
abbrev dktX5_common_1 : List UInt8 := dkwX5_common_1 ++ []
def dkwX5_common_0 : List UInt8 := [26, 156, 0, 8, 26, 116, 167, 0, 4, 26, 61, 27, 156, 0, 8, 27, 116, 167, 0, 4, 27, 62, 29]
abbrev dktX5_common_0 : List UInt8 := dkwX5_common_0 ++ dktX5_common_1
theorem dksX5_common_0 : cX5_common.data.toList.drop 0 = dktX5_common_0 := by decide +kernel
theorem dksX5_common_1 : cX5_common.data.toList.drop 23 = dktX5_common_1 := dk_seg dksX5_common_0 23 rfl rfl
theorem dX5_common_0 : decode cX5_common 0 = .ok (.iload_n 0, 1) := dk_26 (dk_at dksX5_common_0 0 rfl rfl)
theorem dX5_common_1 : decode cX5_common 1 = .ok (.ifCond .ge 8, 3) := dk_156 0 8 (dk_at dksX5_common_0 1 rfl rfl)
theorem dX5_common_4 : decode cX5_common 4 = .ok (.iload_n 0, 1) := dk_26 (dk_at dksX5_common_0 4 rfl rfl)
theorem dX5_common_5 : decode cX5_common 5 = .ok (.ineg, 1) := dk_116 (dk_at dksX5_common_0 5 rfl rfl)
theorem dX5_common_6 : decode cX5_common 6 = .ok (.goto 4, 3) := dk_167 0 4 (dk_at dksX5_common_0 6 rfl rfl)
theorem dX5_common_9 : decode cX5_common 9 = .ok (.iload_n 0, 1) := dk_26 (dk_at dksX5_common_0 9 rfl rfl)
theorem dX5_common_10 : decode cX5_common 10 = .ok (.istore_n 2, 1) := dk_61 (dk_at dksX5_common_0 10 rfl rfl)
theorem dX5_common_11 : decode cX5_common 11 = .ok (.iload_n 1, 1) := dk_27 (dk_at dksX5_common_0 11 rfl rfl)
theorem dX5_common_12 : decode cX5_common 12 = .ok (.ifCond .ge 8, 3) := dk_156 0 8 (dk_at dksX5_common_0 12 rfl rfl)
theorem dX5_common_15 : decode cX5_common 15 = .ok (.iload_n 1, 1) := dk_27 (dk_at dksX5_common_0 15 rfl rfl)
theorem dX5_common_16 : decode cX5_common 16 = .ok (.ineg, 1) := dk_116 (dk_at dksX5_common_0 16 rfl rfl)
theorem dX5_common_17 : decode cX5_common 17 = .ok (.goto 4, 3) := dk_167 0 4 (dk_at dksX5_common_0 17 rfl rfl)
theorem dX5_common_20 : decode cX5_common 20 = .ok (.iload_n 1, 1) := dk_27 (dk_at dksX5_common_0 20 rfl rfl)
theorem dX5_common_21 : decode cX5_common 21 = .ok (.istore_n 3, 1) := dk_62 (dk_at dksX5_common_0 21 rfl rfl)
theorem dX5_common_22 : decode cX5_common 22 = .ok (.iload_n 3, 1) := dk_29 (dk_at dksX5_common_0 22 rfl rfl)
theorem dX5_common_23 : decode cX5_common 23 = .ok (.ifCond .eq 16, 3) := dk_153 0 16 (dk_at dksX5_common_1 0 rfl rfl)
theorem dX5_common_26 : decode cX5_common 26 = .ok (.iload_n 2, 1) := dk_28 (dk_at dksX5_common_1 3 rfl rfl)
theorem dX5_common_27 : decode cX5_common 27 = .ok (.iload_n 3, 1) := dk_29 (dk_at dksX5_common_1 4 rfl rfl)
theorem dX5_common_28 : decode cX5_common 28 = .ok (.irem, 1) := dk_112 (dk_at dksX5_common_1 5 rfl rfl)
theorem dX5_common_29 : decode cX5_common 29 = .ok (.istore 4, 2) := dk_54 4 (dk_at dksX5_common_1 6 rfl rfl)
theorem dX5_common_31 : decode cX5_common 31 = .ok (.iload_n 3, 1) := dk_29 (dk_at dksX5_common_1 8 rfl rfl)
theorem dX5_common_32 : decode cX5_common 32 = .ok (.istore_n 2, 1) := dk_61 (dk_at dksX5_common_1 9 rfl rfl)
theorem dX5_common_33 : decode cX5_common 33 = .ok (.iload 4, 2) := dk_21 4 (dk_at dksX5_common_1 10 rfl rfl)
theorem dX5_common_35 : decode cX5_common 35 = .ok (.istore_n 3, 1) := dk_62 (dk_at dksX5_common_1 12 rfl rfl)
theorem dX5_common_36 : decode cX5_common 36 = .ok (.goto (-14), 3) := dk_167 255 242 (dk_at dksX5_common_1 13 rfl rfl)
theorem dX5_common_39 : decode cX5_common 39 = .ok (.iload_n 2, 1) := dk_28 (dk_at dksX5_common_1 16 rfl rfl)
theorem dX5_common_40 : decode cX5_common 40 = .ok (.ireturn, 1) := dk_172 (dk_at dksX5_common_1 17 rfl rfl)
abbrev cX5_siege : ByteArray := prog_22_method_90_code
def yX5_siege : MethodName := ⟨RX5, "siege", "(III)I"⟩
def dkwX5_siege_5 : List UInt8 := [46, 4, 96, 79, 42, 21, 4, 182, 0, 155, 172]
abbrev dktX5_siege_5 : List UInt8 := dkwX5_siege_5 ++ []
def dkwX5_siege_4 : List UInt8 := [96, 28, 79, 42, 180, 0, 13, 16, 123, 6, 21, 4, 104, 96, 5, 96, 29, 79, 42, 180, 0, 13, 4, 92]
abbrev dktX5_siege_4 : List UInt8 := dkwX5_siege_4 ++ dktX5_siege_5
def dkwX5_siege_3 : List UInt8 := [180, 0, 13, 16, 123, 6, 21, 4, 104, 96, 27, 79, 42, 180, 0, 13, 16, 123, 6, 21, 4, 104, 96, 4]
abbrev dktX5_siege_3 : List UInt8 := dkwX5_siege_3 ++ dktX5_siege_4
def dkwX5_siege_2 : List UInt8 := [42, 180, 0, 13, 4, 46, 54, 4, 21, 4, 16, 8, 160, 0, 10, 42, 16, 251, 182, 0, 155, 172, 42]
abbrev dktX5_siege_2 : List UInt8 := dkwX5_siege_2 ++ dktX5_siege_3
def dkwX5_siege_1 : List UInt8 := [184, 0, 162, 153, 0, 15, 29, 133, 9, 20, 0, 209, 184, 0, 162, 154, 0, 9, 42, 2, 182, 0, 155, 172]
abbrev dktX5_siege_1 : List UInt8 := dkwX5_siege_1 ++ dktX5_siege_2
def dkwX5_siege_0 : List UInt8 := [42, 3, 181, 0, 142, 27, 133, 9, 20, 0, 187, 184, 0, 162, 153, 0, 27, 28, 133, 9, 20, 0, 204]
abbrev dktX5_siege_0 : List UInt8 := dkwX5_siege_0 ++ dktX5_siege_1
theorem dksX5_siege_0 : cX5_siege.data.toList.drop 0 = dktX5_siege_0 := by decide +kernel
theorem dksX5_siege_1 : cX5_siege.data.toList.drop 23 = dktX5_siege_1 := dk_seg dksX5_siege_0 23 rfl rfl
theorem dksX5_siege_2 : cX5_siege.data.toList.drop 47 = dktX5_siege_2 := dk_seg dksX5_siege_1 24 rfl rfl
theorem dksX5_siege_3 : cX5_siege.data.toList.drop 70 = dktX5_siege_3 := dk_seg dksX5_siege_2 23 rfl rfl
theorem dksX5_siege_4 : cX5_siege.data.toList.drop 94 = dktX5_siege_4 := dk_seg dksX5_siege_3 24 rfl rfl
theorem dksX5_siege_5 : cX5_siege.data.toList.drop 118 = dktX5_siege_5 := dk_seg dksX5_siege_4 24 rfl rfl
theorem dX5_siege_0 : decode cX5_siege 0 = .ok (.aload_n 0, 1) := dk_42 (dk_at dksX5_siege_0 0 rfl rfl)
theorem dX5_siege_1 : decode cX5_siege 1 = .ok (.iconst 0, 1) := dk_3 (dk_at dksX5_siege_0 1 rfl rfl)
theorem dX5_siege_2 : decode cX5_siege 2 = .ok (.putfield 142, 3) := dk_181 0 142 (dk_at dksX5_siege_0 2 rfl rfl)
theorem dX5_siege_5 : decode cX5_siege 5 = .ok (.iload_n 1, 1) := dk_27 (dk_at dksX5_siege_0 5 rfl rfl)
theorem dX5_siege_6 : decode cX5_siege 6 = .ok (.i2l, 1) := dk_133 (dk_at dksX5_siege_0 6 rfl rfl)
theorem dX5_siege_7 : decode cX5_siege 7 = .ok (.lconst 0, 1) := dk_9 (dk_at dksX5_siege_0 7 rfl rfl)
theorem dX5_siege_8 : decode cX5_siege 8 = .ok (.ldc2_w 187, 3) := dk_20 0 187 (dk_at dksX5_siege_0 8 rfl rfl)
theorem dX5_siege_11 : decode cX5_siege 11 = .ok (.invokestatic 162, 3) := dk_184 0 162 (dk_at dksX5_siege_0 11 rfl rfl)
theorem dX5_siege_14 : decode cX5_siege 14 = .ok (.ifCond .eq 27, 3) := dk_153 0 27 (dk_at dksX5_siege_0 14 rfl rfl)
theorem dX5_siege_17 : decode cX5_siege 17 = .ok (.iload_n 2, 1) := dk_28 (dk_at dksX5_siege_0 17 rfl rfl)
theorem dX5_siege_18 : decode cX5_siege 18 = .ok (.i2l, 1) := dk_133 (dk_at dksX5_siege_0 18 rfl rfl)
theorem dX5_siege_19 : decode cX5_siege 19 = .ok (.lconst 0, 1) := dk_9 (dk_at dksX5_siege_0 19 rfl rfl)
theorem dX5_siege_20 : decode cX5_siege 20 = .ok (.ldc2_w 204, 3) := dk_20 0 204 (dk_at dksX5_siege_0 20 rfl rfl)
theorem dX5_siege_23 : decode cX5_siege 23 = .ok (.invokestatic 162, 3) := dk_184 0 162 (dk_at dksX5_siege_1 0 rfl rfl)
theorem dX5_siege_26 : decode cX5_siege 26 = .ok (.ifCond .eq 15, 3) := dk_153 0 15 (dk_at dksX5_siege_1 3 rfl rfl)
theorem dX5_siege_29 : decode cX5_siege 29 = .ok (.iload_n 3, 1) := dk_29 (dk_at dksX5_siege_1 6 rfl rfl)
theorem dX5_siege_30 : decode cX5_siege 30 = .ok (.i2l, 1) := dk_133 (dk_at dksX5_siege_1 7 rfl rfl)
theorem dX5_siege_31 : decode cX5_siege 31 = .ok (.lconst 0, 1) := dk_9 (dk_at dksX5_siege_1 8 rfl rfl)
theorem dX5_siege_32 : decode cX5_siege 32 = .ok (.ldc2_w 209, 3) := dk_20 0 209 (dk_at dksX5_siege_1 9 rfl rfl)
theorem dX5_siege_35 : decode cX5_siege 35 = .ok (.invokestatic 162, 3) := dk_184 0 162 (dk_at dksX5_siege_1 12 rfl rfl)
theorem dX5_siege_38 : decode cX5_siege 38 = .ok (.ifCond .ne 9, 3) := dk_154 0 9 (dk_at dksX5_siege_1 15 rfl rfl)
theorem dX5_siege_41 : decode cX5_siege 41 = .ok (.aload_n 0, 1) := dk_42 (dk_at dksX5_siege_1 18 rfl rfl)
theorem dX5_siege_42 : decode cX5_siege 42 = .ok (.iconst (-1), 1) := dk_2 (dk_at dksX5_siege_1 19 rfl rfl)
theorem dX5_siege_43 : decode cX5_siege 43 = .ok (.invokevirtual 155, 3) := dk_182 0 155 (dk_at dksX5_siege_1 20 rfl rfl)
theorem dX5_siege_46 : decode cX5_siege 46 = .ok (.ireturn, 1) := dk_172 (dk_at dksX5_siege_1 23 rfl rfl)
theorem dX5_siege_47 : decode cX5_siege 47 = .ok (.aload_n 0, 1) := dk_42 (dk_at dksX5_siege_2 0 rfl rfl)
theorem dX5_siege_48 : decode cX5_siege 48 = .ok (.getfield 13, 3) := dk_180 0 13 (dk_at dksX5_siege_2 1 rfl rfl)
theorem dX5_siege_51 : decode cX5_siege 51 = .ok (.iconst 1, 1) := dk_4 (dk_at dksX5_siege_2 4 rfl rfl)
theorem dX5_siege_52 : decode cX5_siege 52 = .ok (.iaload, 1) := dk_46 (dk_at dksX5_siege_2 5 rfl rfl)
theorem dX5_siege_53 : decode cX5_siege 53 = .ok (.istore 4, 2) := dk_54 4 (dk_at dksX5_siege_2 6 rfl rfl)
theorem dX5_siege_55 : decode cX5_siege 55 = .ok (.iload 4, 2) := dk_21 4 (dk_at dksX5_siege_2 8 rfl rfl)
theorem dX5_siege_57 : decode cX5_siege 57 = .ok (.bipush 8, 2) := dk_16 8 (dk_at dksX5_siege_2 10 rfl rfl)
theorem dX5_siege_59 : decode cX5_siege 59 = .ok (.if_icmp .ne 10, 3) := dk_160 0 10 (dk_at dksX5_siege_2 12 rfl rfl)
theorem dX5_siege_62 : decode cX5_siege 62 = .ok (.aload_n 0, 1) := dk_42 (dk_at dksX5_siege_2 15 rfl rfl)
theorem dX5_siege_63 : decode cX5_siege 63 = .ok (.bipush (-5), 2) := dk_16 251 (dk_at dksX5_siege_2 16 rfl rfl)
theorem dX5_siege_65 : decode cX5_siege 65 = .ok (.invokevirtual 155, 3) := dk_182 0 155 (dk_at dksX5_siege_2 18 rfl rfl)
theorem dX5_siege_68 : decode cX5_siege 68 = .ok (.ireturn, 1) := dk_172 (dk_at dksX5_siege_2 21 rfl rfl)
theorem dX5_siege_69 : decode cX5_siege 69 = .ok (.aload_n 0, 1) := dk_42 (dk_at dksX5_siege_2 22 rfl rfl)
theorem dX5_siege_70 : decode cX5_siege 70 = .ok (.getfield 13, 3) := dk_180 0 13 (dk_at dksX5_siege_3 0 rfl rfl)
theorem dX5_siege_73 : decode cX5_siege 73 = .ok (.bipush 123, 2) := dk_16 123 (dk_at dksX5_siege_3 3 rfl rfl)
theorem dX5_siege_75 : decode cX5_siege 75 = .ok (.iconst 3, 1) := dk_6 (dk_at dksX5_siege_3 5 rfl rfl)
theorem dX5_siege_76 : decode cX5_siege 76 = .ok (.iload 4, 2) := dk_21 4 (dk_at dksX5_siege_3 6 rfl rfl)
theorem dX5_siege_78 : decode cX5_siege 78 = .ok (.imul, 1) := dk_104 (dk_at dksX5_siege_3 8 rfl rfl)
theorem dX5_siege_79 : decode cX5_siege 79 = .ok (.iadd, 1) := dk_96 (dk_at dksX5_siege_3 9 rfl rfl)
theorem dX5_siege_80 : decode cX5_siege 80 = .ok (.iload_n 1, 1) := dk_27 (dk_at dksX5_siege_3 10 rfl rfl)
theorem dX5_siege_81 : decode cX5_siege 81 = .ok (.iastore, 1) := dk_79 (dk_at dksX5_siege_3 11 rfl rfl)
theorem dX5_siege_82 : decode cX5_siege 82 = .ok (.aload_n 0, 1) := dk_42 (dk_at dksX5_siege_3 12 rfl rfl)
theorem dX5_siege_83 : decode cX5_siege 83 = .ok (.getfield 13, 3) := dk_180 0 13 (dk_at dksX5_siege_3 13 rfl rfl)
theorem dX5_siege_86 : decode cX5_siege 86 = .ok (.bipush 123, 2) := dk_16 123 (dk_at dksX5_siege_3 16 rfl rfl)
theorem dX5_siege_88 : decode cX5_siege 88 = .ok (.iconst 3, 1) := dk_6 (dk_at dksX5_siege_3 18 rfl rfl)
theorem dX5_siege_89 : decode cX5_siege 89 = .ok (.iload 4, 2) := dk_21 4 (dk_at dksX5_siege_3 19 rfl rfl)
theorem dX5_siege_91 : decode cX5_siege 91 = .ok (.imul, 1) := dk_104 (dk_at dksX5_siege_3 21 rfl rfl)
theorem dX5_siege_92 : decode cX5_siege 92 = .ok (.iadd, 1) := dk_96 (dk_at dksX5_siege_3 22 rfl rfl)
theorem dX5_siege_93 : decode cX5_siege 93 = .ok (.iconst 1, 1) := dk_4 (dk_at dksX5_siege_3 23 rfl rfl)
theorem dX5_siege_94 : decode cX5_siege 94 = .ok (.iadd, 1) := dk_96 (dk_at dksX5_siege_4 0 rfl rfl)
theorem dX5_siege_95 : decode cX5_siege 95 = .ok (.iload_n 2, 1) := dk_28 (dk_at dksX5_siege_4 1 rfl rfl)
theorem dX5_siege_96 : decode cX5_siege 96 = .ok (.iastore, 1) := dk_79 (dk_at dksX5_siege_4 2 rfl rfl)
theorem dX5_siege_97 : decode cX5_siege 97 = .ok (.aload_n 0, 1) := dk_42 (dk_at dksX5_siege_4 3 rfl rfl)
theorem dX5_siege_98 : decode cX5_siege 98 = .ok (.getfield 13, 3) := dk_180 0 13 (dk_at dksX5_siege_4 4 rfl rfl)
theorem dX5_siege_101 : decode cX5_siege 101 = .ok (.bipush 123, 2) := dk_16 123 (dk_at dksX5_siege_4 7 rfl rfl)
theorem dX5_siege_103 : decode cX5_siege 103 = .ok (.iconst 3, 1) := dk_6 (dk_at dksX5_siege_4 9 rfl rfl)
theorem dX5_siege_104 : decode cX5_siege 104 = .ok (.iload 4, 2) := dk_21 4 (dk_at dksX5_siege_4 10 rfl rfl)
theorem dX5_siege_106 : decode cX5_siege 106 = .ok (.imul, 1) := dk_104 (dk_at dksX5_siege_4 12 rfl rfl)
theorem dX5_siege_107 : decode cX5_siege 107 = .ok (.iadd, 1) := dk_96 (dk_at dksX5_siege_4 13 rfl rfl)
theorem dX5_siege_108 : decode cX5_siege 108 = .ok (.iconst 2, 1) := dk_5 (dk_at dksX5_siege_4 14 rfl rfl)
theorem dX5_siege_109 : decode cX5_siege 109 = .ok (.iadd, 1) := dk_96 (dk_at dksX5_siege_4 15 rfl rfl)
theorem dX5_siege_110 : decode cX5_siege 110 = .ok (.iload_n 3, 1) := dk_29 (dk_at dksX5_siege_4 16 rfl rfl)
theorem dX5_siege_111 : decode cX5_siege 111 = .ok (.iastore, 1) := dk_79 (dk_at dksX5_siege_4 17 rfl rfl)
theorem dX5_siege_112 : decode cX5_siege 112 = .ok (.aload_n 0, 1) := dk_42 (dk_at dksX5_siege_4 18 rfl rfl)
theorem dX5_siege_113 : decode cX5_siege 113 = .ok (.getfield 13, 3) := dk_180 0 13 (dk_at dksX5_siege_4 19 rfl rfl)
theorem dX5_siege_116 : decode cX5_siege 116 = .ok (.iconst 1, 1) := dk_4 (dk_at dksX5_siege_4 22 rfl rfl)
theorem dX5_siege_117 : decode cX5_siege 117 = .ok (.dup2, 1) := dk_92 (dk_at dksX5_siege_4 23 rfl rfl)
theorem dX5_siege_118 : decode cX5_siege 118 = .ok (.iaload, 1) := dk_46 (dk_at dksX5_siege_5 0 rfl rfl)
theorem dX5_siege_119 : decode cX5_siege 119 = .ok (.iconst 1, 1) := dk_4 (dk_at dksX5_siege_5 1 rfl rfl)
theorem dX5_siege_120 : decode cX5_siege 120 = .ok (.iadd, 1) := dk_96 (dk_at dksX5_siege_5 2 rfl rfl)
theorem dX5_siege_121 : decode cX5_siege 121 = .ok (.iastore, 1) := dk_79 (dk_at dksX5_siege_5 3 rfl rfl)
theorem dX5_siege_122 : decode cX5_siege 122 = .ok (.aload_n 0, 1) := dk_42 (dk_at dksX5_siege_5 4 rfl rfl)
theorem dX5_siege_123 : decode cX5_siege 123 = .ok (.iload 4, 2) := dk_21 4 (dk_at dksX5_siege_5 5 rfl rfl)
theorem dX5_siege_125 : decode cX5_siege 125 = .ok (.invokevirtual 155, 3) := dk_182 0 155 (dk_at dksX5_siege_5 7 rfl rfl)
theorem dX5_siege_128 : decode cX5_siege 128 = .ok (.ireturn, 1) := dk_172 (dk_at dksX5_siege_5 10 rfl rfl)
abbrev cX5_career : ByteArray := prog_22_method_93_code
def yX5_career : MethodName := ⟨RX5, "career", "(II)I"⟩
def dkwX5_career_10 : List UInt8 := [46, 167, 0, 5, 21, 5, 172]
abbrev dktX5_career_10 : List UInt8 := dkwX5_career_10 ++ []
def dkwX5_career_9 : List UInt8 := [184, 1, 141, 167, 0, 4, 3, 54, 4, 132, 6, 1, 167, 255, 194, 28, 154, 0, 12, 42, 180, 0, 113, 27]
abbrev dktX5_career_9 : List UInt8 := dkwX5_career_9 ++ dktX5_career_10
def dkwX5_career_8 : List UInt8 := [160, 0, 7, 3, 167, 0, 4, 4, 54, 5, 21, 5, 154, 0, 17, 21, 4, 133, 10, 97, 3, 16, 10]
abbrev dktX5_career_8 : List UInt8 := dkwX5_career_8 ++ dktX5_career_9
def dkwX5_career_7 : List UInt8 := [162, 0, 62, 42, 21, 6, 21, 4, 182, 1, 209, 42, 180, 0, 113, 16, 11, 21, 6, 104, 21, 4, 96, 46]
abbrev dktX5_career_7 : List UInt8 := dkwX5_career_7 ++ dktX5_career_8
def dkwX5_career_6 : List UInt8 := [132, 5, 1, 167, 255, 195, 132, 4, 255, 167, 255, 181, 27, 54, 4, 3, 54, 5, 3, 54, 6, 21, 6, 28]
abbrev dktX5_career_6 : List UInt8 := dkwX5_career_6 ++ dktX5_career_7
def dkwX5_career_5 : List UInt8 := [161, 0, 14, 42, 21, 4, 21, 5, 182, 1, 209, 167, 0, 11, 42, 21, 4, 21, 5, 182, 1, 212, 79]
abbrev dktX5_career_5 : List UInt8 := dkwX5_career_5 ++ dktX5_career_6
def dkwX5_career_4 : List UInt8 := [21, 4, 104, 21, 5, 96, 42, 21, 4, 21, 5, 182, 1, 209, 42, 21, 4, 21, 5, 182, 1, 212]
abbrev dktX5_career_4 : List UInt8 := dkwX5_career_4 ++ dktX5_career_5
def dkwX5_career_3 : List UInt8 := [100, 54, 4, 21, 4, 155, 0, 76, 3, 54, 5, 21, 5, 16, 11, 162, 0, 60, 42, 180, 0, 113, 16, 11]
abbrev dktX5_career_3 : List UInt8 := dkwX5_career_3 ++ dktX5_career_4
def dkwX5_career_2 : List UInt8 := [162, 0, 22, 42, 180, 0, 113, 16, 11, 29, 104, 21, 4, 96, 3, 79, 132, 4, 1, 167, 255, 233, 29, 4]
abbrev dktX5_career_2 : List UInt8 := dkwX5_career_2 ++ dktX5_career_3
def dkwX5_career_1 : List UInt8 := [28, 133, 9, 29, 133, 184, 0, 162, 154, 0, 7, 19, 1, 204, 172, 3, 54, 4, 21, 4, 16, 11]
abbrev dktX5_career_1 : List UInt8 := dkwX5_career_1 ++ dktX5_career_2
def dkwX5_career_0 : List UInt8 := [42, 3, 181, 0, 142, 42, 180, 0, 13, 4, 46, 62, 27, 133, 9, 20, 0, 204, 184, 0, 162, 153, 0, 14]
abbrev dktX5_career_0 : List UInt8 := dkwX5_career_0 ++ dktX5_career_1
theorem dksX5_career_0 : cX5_career.data.toList.drop 0 = dktX5_career_0 := by decide +kernel
theorem dksX5_career_1 : cX5_career.data.toList.drop 24 = dktX5_career_1 := dk_seg dksX5_career_0 24 rfl rfl
theorem dksX5_career_2 : cX5_career.data.toList.drop 46 = dktX5_career_2 := dk_seg dksX5_career_1 22 rfl rfl
theorem dksX5_career_3 : cX5_career.data.toList.drop 70 = dktX5_career_3 := dk_seg dksX5_career_2 24 rfl rfl
theorem dksX5_career_4 : cX5_career.data.toList.drop 94 = dktX5_career_4 := dk_seg dksX5_career_3 24 rfl rfl
theorem dksX5_career_5 : cX5_career.data.toList.drop 116 = dktX5_career_5 := dk_seg dksX5_career_4 22 rfl rfl
theorem dksX5_career_6 : cX5_career.data.toList.drop 139 = dktX5_career_6 := dk_seg dksX5_career_5 23 rfl rfl
theorem dksX5_career_7 : cX5_career.data.toList.drop 163 = dktX5_career_7 := dk_seg dksX5_career_6 24 rfl rfl
theorem dksX5_career_8 : cX5_career.data.toList.drop 187 = dktX5_career_8 := dk_seg dksX5_career_7 24 rfl rfl
theorem dksX5_career_9 : cX5_career.data.toList.drop 210 = dktX5_career_9 := dk_seg dksX5_career_8 23 rfl rfl
theorem dksX5_career_10 : cX5_career.data.toList.drop 234 = dktX5_career_10 := dk_seg dksX5_career_9 24 rfl rfl
theorem dX5_career_0 : decode cX5_career 0 = .ok (.aload_n 0, 1) := dk_42 (dk_at dksX5_career_0 0 rfl rfl)
theorem dX5_career_1 : decode cX5_career 1 = .ok (.iconst 0, 1) := dk_3 (dk_at dksX5_career_0 1 rfl rfl)
theorem dX5_career_2 : decode cX5_career 2 = .ok (.putfield 142, 3) := dk_181 0 142 (dk_at dksX5_career_0 2 rfl rfl)
theorem dX5_career_5 : decode cX5_career 5 = .ok (.aload_n 0, 1) := dk_42 (dk_at dksX5_career_0 5 rfl rfl)
theorem dX5_career_6 : decode cX5_career 6 = .ok (.getfield 13, 3) := dk_180 0 13 (dk_at dksX5_career_0 6 rfl rfl)
theorem dX5_career_9 : decode cX5_career 9 = .ok (.iconst 1, 1) := dk_4 (dk_at dksX5_career_0 9 rfl rfl)
theorem dX5_career_10 : decode cX5_career 10 = .ok (.iaload, 1) := dk_46 (dk_at dksX5_career_0 10 rfl rfl)
theorem dX5_career_11 : decode cX5_career 11 = .ok (.istore_n 3, 1) := dk_62 (dk_at dksX5_career_0 11 rfl rfl)
theorem dX5_career_12 : decode cX5_career 12 = .ok (.iload_n 1, 1) := dk_27 (dk_at dksX5_career_0 12 rfl rfl)
theorem dX5_career_13 : decode cX5_career 13 = .ok (.i2l, 1) := dk_133 (dk_at dksX5_career_0 13 rfl rfl)
theorem dX5_career_14 : decode cX5_career 14 = .ok (.lconst 0, 1) := dk_9 (dk_at dksX5_career_0 14 rfl rfl)
theorem dX5_career_15 : decode cX5_career 15 = .ok (.ldc2_w 204, 3) := dk_20 0 204 (dk_at dksX5_career_0 15 rfl rfl)
theorem dX5_career_18 : decode cX5_career 18 = .ok (.invokestatic 162, 3) := dk_184 0 162 (dk_at dksX5_career_0 18 rfl rfl)
theorem dX5_career_21 : decode cX5_career 21 = .ok (.ifCond .eq 14, 3) := dk_153 0 14 (dk_at dksX5_career_0 21 rfl rfl)
theorem dX5_career_24 : decode cX5_career 24 = .ok (.iload_n 2, 1) := dk_28 (dk_at dksX5_career_1 0 rfl rfl)
theorem dX5_career_25 : decode cX5_career 25 = .ok (.i2l, 1) := dk_133 (dk_at dksX5_career_1 1 rfl rfl)
theorem dX5_career_26 : decode cX5_career 26 = .ok (.lconst 0, 1) := dk_9 (dk_at dksX5_career_1 2 rfl rfl)
theorem dX5_career_27 : decode cX5_career 27 = .ok (.iload_n 3, 1) := dk_29 (dk_at dksX5_career_1 3 rfl rfl)
theorem dX5_career_28 : decode cX5_career 28 = .ok (.i2l, 1) := dk_133 (dk_at dksX5_career_1 4 rfl rfl)
theorem dX5_career_29 : decode cX5_career 29 = .ok (.invokestatic 162, 3) := dk_184 0 162 (dk_at dksX5_career_1 5 rfl rfl)
theorem dX5_career_32 : decode cX5_career 32 = .ok (.ifCond .ne 7, 3) := dk_154 0 7 (dk_at dksX5_career_1 8 rfl rfl)
theorem dX5_career_35 : decode cX5_career 35 = .ok (.ldc_w 460, 3) := dk_19 1 204 (dk_at dksX5_career_1 11 rfl rfl)
theorem dX5_career_38 : decode cX5_career 38 = .ok (.ireturn, 1) := dk_172 (dk_at dksX5_career_1 14 rfl rfl)
theorem dX5_career_39 : decode cX5_career 39 = .ok (.iconst 0, 1) := dk_3 (dk_at dksX5_career_1 15 rfl rfl)
theorem dX5_career_40 : decode cX5_career 40 = .ok (.istore 4, 2) := dk_54 4 (dk_at dksX5_career_1 16 rfl rfl)
theorem dX5_career_42 : decode cX5_career 42 = .ok (.iload 4, 2) := dk_21 4 (dk_at dksX5_career_1 18 rfl rfl)
theorem dX5_career_44 : decode cX5_career 44 = .ok (.bipush 11, 2) := dk_16 11 (dk_at dksX5_career_1 20 rfl rfl)
theorem dX5_career_46 : decode cX5_career 46 = .ok (.if_icmp .ge 22, 3) := dk_162 0 22 (dk_at dksX5_career_2 0 rfl rfl)
theorem dX5_career_49 : decode cX5_career 49 = .ok (.aload_n 0, 1) := dk_42 (dk_at dksX5_career_2 3 rfl rfl)
theorem dX5_career_50 : decode cX5_career 50 = .ok (.getfield 113, 3) := dk_180 0 113 (dk_at dksX5_career_2 4 rfl rfl)
theorem dX5_career_53 : decode cX5_career 53 = .ok (.bipush 11, 2) := dk_16 11 (dk_at dksX5_career_2 7 rfl rfl)
theorem dX5_career_55 : decode cX5_career 55 = .ok (.iload_n 3, 1) := dk_29 (dk_at dksX5_career_2 9 rfl rfl)
theorem dX5_career_56 : decode cX5_career 56 = .ok (.imul, 1) := dk_104 (dk_at dksX5_career_2 10 rfl rfl)
theorem dX5_career_57 : decode cX5_career 57 = .ok (.iload 4, 2) := dk_21 4 (dk_at dksX5_career_2 11 rfl rfl)
theorem dX5_career_59 : decode cX5_career 59 = .ok (.iadd, 1) := dk_96 (dk_at dksX5_career_2 13 rfl rfl)
theorem dX5_career_60 : decode cX5_career 60 = .ok (.iconst 0, 1) := dk_3 (dk_at dksX5_career_2 14 rfl rfl)
theorem dX5_career_61 : decode cX5_career 61 = .ok (.iastore, 1) := dk_79 (dk_at dksX5_career_2 15 rfl rfl)
theorem dX5_career_62 : decode cX5_career 62 = .ok (.iinc 4 1, 3) := dk_132 4 1 (dk_at dksX5_career_2 16 rfl rfl)
theorem dX5_career_65 : decode cX5_career 65 = .ok (.goto (-23), 3) := dk_167 255 233 (dk_at dksX5_career_2 19 rfl rfl)
theorem dX5_career_68 : decode cX5_career 68 = .ok (.iload_n 3, 1) := dk_29 (dk_at dksX5_career_2 22 rfl rfl)
theorem dX5_career_69 : decode cX5_career 69 = .ok (.iconst 1, 1) := dk_4 (dk_at dksX5_career_2 23 rfl rfl)
theorem dX5_career_70 : decode cX5_career 70 = .ok (.isub, 1) := dk_100 (dk_at dksX5_career_3 0 rfl rfl)
theorem dX5_career_71 : decode cX5_career 71 = .ok (.istore 4, 2) := dk_54 4 (dk_at dksX5_career_3 1 rfl rfl)
theorem dX5_career_73 : decode cX5_career 73 = .ok (.iload 4, 2) := dk_21 4 (dk_at dksX5_career_3 3 rfl rfl)
theorem dX5_career_75 : decode cX5_career 75 = .ok (.ifCond .lt 76, 3) := dk_155 0 76 (dk_at dksX5_career_3 5 rfl rfl)
theorem dX5_career_78 : decode cX5_career 78 = .ok (.iconst 0, 1) := dk_3 (dk_at dksX5_career_3 8 rfl rfl)
theorem dX5_career_79 : decode cX5_career 79 = .ok (.istore 5, 2) := dk_54 5 (dk_at dksX5_career_3 9 rfl rfl)
theorem dX5_career_81 : decode cX5_career 81 = .ok (.iload 5, 2) := dk_21 5 (dk_at dksX5_career_3 11 rfl rfl)
theorem dX5_career_83 : decode cX5_career 83 = .ok (.bipush 11, 2) := dk_16 11 (dk_at dksX5_career_3 13 rfl rfl)
theorem dX5_career_85 : decode cX5_career 85 = .ok (.if_icmp .ge 60, 3) := dk_162 0 60 (dk_at dksX5_career_3 15 rfl rfl)
theorem dX5_career_88 : decode cX5_career 88 = .ok (.aload_n 0, 1) := dk_42 (dk_at dksX5_career_3 18 rfl rfl)
theorem dX5_career_89 : decode cX5_career 89 = .ok (.getfield 113, 3) := dk_180 0 113 (dk_at dksX5_career_3 19 rfl rfl)
theorem dX5_career_92 : decode cX5_career 92 = .ok (.bipush 11, 2) := dk_16 11 (dk_at dksX5_career_3 22 rfl rfl)
theorem dX5_career_94 : decode cX5_career 94 = .ok (.iload 4, 2) := dk_21 4 (dk_at dksX5_career_4 0 rfl rfl)
theorem dX5_career_96 : decode cX5_career 96 = .ok (.imul, 1) := dk_104 (dk_at dksX5_career_4 2 rfl rfl)
theorem dX5_career_97 : decode cX5_career 97 = .ok (.iload 5, 2) := dk_21 5 (dk_at dksX5_career_4 3 rfl rfl)
theorem dX5_career_99 : decode cX5_career 99 = .ok (.iadd, 1) := dk_96 (dk_at dksX5_career_4 5 rfl rfl)
theorem dX5_career_100 : decode cX5_career 100 = .ok (.aload_n 0, 1) := dk_42 (dk_at dksX5_career_4 6 rfl rfl)
theorem dX5_career_101 : decode cX5_career 101 = .ok (.iload 4, 2) := dk_21 4 (dk_at dksX5_career_4 7 rfl rfl)
theorem dX5_career_103 : decode cX5_career 103 = .ok (.iload 5, 2) := dk_21 5 (dk_at dksX5_career_4 9 rfl rfl)
theorem dX5_career_105 : decode cX5_career 105 = .ok (.invokevirtual 465, 3) := dk_182 1 209 (dk_at dksX5_career_4 11 rfl rfl)
theorem dX5_career_108 : decode cX5_career 108 = .ok (.aload_n 0, 1) := dk_42 (dk_at dksX5_career_4 14 rfl rfl)
theorem dX5_career_109 : decode cX5_career 109 = .ok (.iload 4, 2) := dk_21 4 (dk_at dksX5_career_4 15 rfl rfl)
theorem dX5_career_111 : decode cX5_career 111 = .ok (.iload 5, 2) := dk_21 5 (dk_at dksX5_career_4 17 rfl rfl)
theorem dX5_career_113 : decode cX5_career 113 = .ok (.invokevirtual 468, 3) := dk_182 1 212 (dk_at dksX5_career_4 19 rfl rfl)
theorem dX5_career_116 : decode cX5_career 116 = .ok (.if_icmp .lt 14, 3) := dk_161 0 14 (dk_at dksX5_career_5 0 rfl rfl)
theorem dX5_career_119 : decode cX5_career 119 = .ok (.aload_n 0, 1) := dk_42 (dk_at dksX5_career_5 3 rfl rfl)
theorem dX5_career_120 : decode cX5_career 120 = .ok (.iload 4, 2) := dk_21 4 (dk_at dksX5_career_5 4 rfl rfl)
theorem dX5_career_122 : decode cX5_career 122 = .ok (.iload 5, 2) := dk_21 5 (dk_at dksX5_career_5 6 rfl rfl)
theorem dX5_career_124 : decode cX5_career 124 = .ok (.invokevirtual 465, 3) := dk_182 1 209 (dk_at dksX5_career_5 8 rfl rfl)
theorem dX5_career_127 : decode cX5_career 127 = .ok (.goto 11, 3) := dk_167 0 11 (dk_at dksX5_career_5 11 rfl rfl)
theorem dX5_career_130 : decode cX5_career 130 = .ok (.aload_n 0, 1) := dk_42 (dk_at dksX5_career_5 14 rfl rfl)
theorem dX5_career_131 : decode cX5_career 131 = .ok (.iload 4, 2) := dk_21 4 (dk_at dksX5_career_5 15 rfl rfl)
theorem dX5_career_133 : decode cX5_career 133 = .ok (.iload 5, 2) := dk_21 5 (dk_at dksX5_career_5 17 rfl rfl)
theorem dX5_career_135 : decode cX5_career 135 = .ok (.invokevirtual 468, 3) := dk_182 1 212 (dk_at dksX5_career_5 19 rfl rfl)
theorem dX5_career_138 : decode cX5_career 138 = .ok (.iastore, 1) := dk_79 (dk_at dksX5_career_5 22 rfl rfl)
theorem dX5_career_139 : decode cX5_career 139 = .ok (.iinc 5 1, 3) := dk_132 5 1 (dk_at dksX5_career_6 0 rfl rfl)
theorem dX5_career_142 : decode cX5_career 142 = .ok (.goto (-61), 3) := dk_167 255 195 (dk_at dksX5_career_6 3 rfl rfl)
theorem dX5_career_145 : decode cX5_career 145 = .ok (.iinc 4 (-1), 3) := dk_132 4 255 (dk_at dksX5_career_6 6 rfl rfl)
theorem dX5_career_148 : decode cX5_career 148 = .ok (.goto (-75), 3) := dk_167 255 181 (dk_at dksX5_career_6 9 rfl rfl)
theorem dX5_career_151 : decode cX5_career 151 = .ok (.iload_n 1, 1) := dk_27 (dk_at dksX5_career_6 12 rfl rfl)
theorem dX5_career_152 : decode cX5_career 152 = .ok (.istore 4, 2) := dk_54 4 (dk_at dksX5_career_6 13 rfl rfl)
theorem dX5_career_154 : decode cX5_career 154 = .ok (.iconst 0, 1) := dk_3 (dk_at dksX5_career_6 15 rfl rfl)
theorem dX5_career_155 : decode cX5_career 155 = .ok (.istore 5, 2) := dk_54 5 (dk_at dksX5_career_6 16 rfl rfl)
theorem dX5_career_157 : decode cX5_career 157 = .ok (.iconst 0, 1) := dk_3 (dk_at dksX5_career_6 18 rfl rfl)
theorem dX5_career_158 : decode cX5_career 158 = .ok (.istore 6, 2) := dk_54 6 (dk_at dksX5_career_6 19 rfl rfl)
theorem dX5_career_160 : decode cX5_career 160 = .ok (.iload 6, 2) := dk_21 6 (dk_at dksX5_career_6 21 rfl rfl)
theorem dX5_career_162 : decode cX5_career 162 = .ok (.iload_n 2, 1) := dk_28 (dk_at dksX5_career_6 23 rfl rfl)
theorem dX5_career_163 : decode cX5_career 163 = .ok (.if_icmp .ge 62, 3) := dk_162 0 62 (dk_at dksX5_career_7 0 rfl rfl)
theorem dX5_career_166 : decode cX5_career 166 = .ok (.aload_n 0, 1) := dk_42 (dk_at dksX5_career_7 3 rfl rfl)
theorem dX5_career_167 : decode cX5_career 167 = .ok (.iload 6, 2) := dk_21 6 (dk_at dksX5_career_7 4 rfl rfl)
theorem dX5_career_169 : decode cX5_career 169 = .ok (.iload 4, 2) := dk_21 4 (dk_at dksX5_career_7 6 rfl rfl)
theorem dX5_career_171 : decode cX5_career 171 = .ok (.invokevirtual 465, 3) := dk_182 1 209 (dk_at dksX5_career_7 8 rfl rfl)
theorem dX5_career_174 : decode cX5_career 174 = .ok (.aload_n 0, 1) := dk_42 (dk_at dksX5_career_7 11 rfl rfl)
theorem dX5_career_175 : decode cX5_career 175 = .ok (.getfield 113, 3) := dk_180 0 113 (dk_at dksX5_career_7 12 rfl rfl)
theorem dX5_career_178 : decode cX5_career 178 = .ok (.bipush 11, 2) := dk_16 11 (dk_at dksX5_career_7 15 rfl rfl)
theorem dX5_career_180 : decode cX5_career 180 = .ok (.iload 6, 2) := dk_21 6 (dk_at dksX5_career_7 17 rfl rfl)
theorem dX5_career_182 : decode cX5_career 182 = .ok (.imul, 1) := dk_104 (dk_at dksX5_career_7 19 rfl rfl)
theorem dX5_career_183 : decode cX5_career 183 = .ok (.iload 4, 2) := dk_21 4 (dk_at dksX5_career_7 20 rfl rfl)
theorem dX5_career_185 : decode cX5_career 185 = .ok (.iadd, 1) := dk_96 (dk_at dksX5_career_7 22 rfl rfl)
theorem dX5_career_186 : decode cX5_career 186 = .ok (.iaload, 1) := dk_46 (dk_at dksX5_career_7 23 rfl rfl)
theorem dX5_career_187 : decode cX5_career 187 = .ok (.if_icmp .ne 7, 3) := dk_160 0 7 (dk_at dksX5_career_8 0 rfl rfl)
theorem dX5_career_190 : decode cX5_career 190 = .ok (.iconst 0, 1) := dk_3 (dk_at dksX5_career_8 3 rfl rfl)
theorem dX5_career_191 : decode cX5_career 191 = .ok (.goto 4, 3) := dk_167 0 4 (dk_at dksX5_career_8 4 rfl rfl)
theorem dX5_career_194 : decode cX5_career 194 = .ok (.iconst 1, 1) := dk_4 (dk_at dksX5_career_8 7 rfl rfl)
theorem dX5_career_195 : decode cX5_career 195 = .ok (.istore 5, 2) := dk_54 5 (dk_at dksX5_career_8 8 rfl rfl)
theorem dX5_career_197 : decode cX5_career 197 = .ok (.iload 5, 2) := dk_21 5 (dk_at dksX5_career_8 10 rfl rfl)
theorem dX5_career_199 : decode cX5_career 199 = .ok (.ifCond .ne 17, 3) := dk_154 0 17 (dk_at dksX5_career_8 12 rfl rfl)
theorem dX5_career_202 : decode cX5_career 202 = .ok (.iload 4, 2) := dk_21 4 (dk_at dksX5_career_8 15 rfl rfl)
theorem dX5_career_204 : decode cX5_career 204 = .ok (.i2l, 1) := dk_133 (dk_at dksX5_career_8 17 rfl rfl)
theorem dX5_career_205 : decode cX5_career 205 = .ok (.lconst 1, 1) := dk_10 (dk_at dksX5_career_8 18 rfl rfl)
theorem dX5_career_206 : decode cX5_career 206 = .ok (.ladd, 1) := dk_97 (dk_at dksX5_career_8 19 rfl rfl)
theorem dX5_career_207 : decode cX5_career 207 = .ok (.iconst 0, 1) := dk_3 (dk_at dksX5_career_8 20 rfl rfl)
theorem dX5_career_208 : decode cX5_career 208 = .ok (.bipush 10, 2) := dk_16 10 (dk_at dksX5_career_8 21 rfl rfl)
theorem dX5_career_210 : decode cX5_career 210 = .ok (.invokestatic 397, 3) := dk_184 1 141 (dk_at dksX5_career_9 0 rfl rfl)
theorem dX5_career_213 : decode cX5_career 213 = .ok (.goto 4, 3) := dk_167 0 4 (dk_at dksX5_career_9 3 rfl rfl)
theorem dX5_career_216 : decode cX5_career 216 = .ok (.iconst 0, 1) := dk_3 (dk_at dksX5_career_9 6 rfl rfl)
theorem dX5_career_217 : decode cX5_career 217 = .ok (.istore 4, 2) := dk_54 4 (dk_at dksX5_career_9 7 rfl rfl)
theorem dX5_career_219 : decode cX5_career 219 = .ok (.iinc 6 1, 3) := dk_132 6 1 (dk_at dksX5_career_9 9 rfl rfl)
theorem dX5_career_222 : decode cX5_career 222 = .ok (.goto (-62), 3) := dk_167 255 194 (dk_at dksX5_career_9 12 rfl rfl)
theorem dX5_career_225 : decode cX5_career 225 = .ok (.iload_n 2, 1) := dk_28 (dk_at dksX5_career_9 15 rfl rfl)
theorem dX5_career_226 : decode cX5_career 226 = .ok (.ifCond .ne 12, 3) := dk_154 0 12 (dk_at dksX5_career_9 16 rfl rfl)
theorem dX5_career_229 : decode cX5_career 229 = .ok (.aload_n 0, 1) := dk_42 (dk_at dksX5_career_9 19 rfl rfl)
theorem dX5_career_230 : decode cX5_career 230 = .ok (.getfield 113, 3) := dk_180 0 113 (dk_at dksX5_career_9 20 rfl rfl)
theorem dX5_career_233 : decode cX5_career 233 = .ok (.iload_n 1, 1) := dk_27 (dk_at dksX5_career_9 23 rfl rfl)
theorem dX5_career_234 : decode cX5_career 234 = .ok (.iaload, 1) := dk_46 (dk_at dksX5_career_10 0 rfl rfl)
theorem dX5_career_235 : decode cX5_career 235 = .ok (.goto 5, 3) := dk_167 0 5 (dk_at dksX5_career_10 1 rfl rfl)
theorem dX5_career_238 : decode cX5_career 238 = .ok (.iload 5, 2) := dk_21 5 (dk_at dksX5_career_10 4 rfl rfl)
theorem dX5_career_240 : decode cX5_career 240 = .ok (.ireturn, 1) := dk_172 (dk_at dksX5_career_10 6 rfl rfl)
abbrev cX5_careful : ByteArray := prog_22_method_91_code
def yX5_careful : MethodName := ⟨RX5, "careful", "(II)I"⟩
def dkwX5_careful_1 : List UInt8 := [180, 0, 13, 16, 123, 6, 27, 104, 96, 46, 100, 172]
abbrev dktX5_careful_1 : List UInt8 := dkwX5_careful_1 ++ []
def dkwX5_careful_0 : List UInt8 := [42, 180, 0, 113, 16, 11, 27, 104, 16, 11, 96, 28, 133, 10, 97, 3, 16, 10, 184, 1, 141, 96, 46, 42]
abbrev dktX5_careful_0 : List UInt8 := dkwX5_careful_0 ++ dktX5_careful_1
theorem dksX5_careful_0 : cX5_careful.data.toList.drop 0 = dktX5_careful_0 := by decide +kernel
theorem dksX5_careful_1 : cX5_careful.data.toList.drop 24 = dktX5_careful_1 := dk_seg dksX5_careful_0 24 rfl rfl
theorem dX5_careful_0 : decode cX5_careful 0 = .ok (.aload_n 0, 1) := dk_42 (dk_at dksX5_careful_0 0 rfl rfl)
theorem dX5_careful_1 : decode cX5_careful 1 = .ok (.getfield 113, 3) := dk_180 0 113 (dk_at dksX5_careful_0 1 rfl rfl)
theorem dX5_careful_4 : decode cX5_careful 4 = .ok (.bipush 11, 2) := dk_16 11 (dk_at dksX5_careful_0 4 rfl rfl)
theorem dX5_careful_6 : decode cX5_careful 6 = .ok (.iload_n 1, 1) := dk_27 (dk_at dksX5_careful_0 6 rfl rfl)
theorem dX5_careful_7 : decode cX5_careful 7 = .ok (.imul, 1) := dk_104 (dk_at dksX5_careful_0 7 rfl rfl)
theorem dX5_careful_8 : decode cX5_careful 8 = .ok (.bipush 11, 2) := dk_16 11 (dk_at dksX5_careful_0 8 rfl rfl)
theorem dX5_careful_10 : decode cX5_careful 10 = .ok (.iadd, 1) := dk_96 (dk_at dksX5_careful_0 10 rfl rfl)
theorem dX5_careful_11 : decode cX5_careful 11 = .ok (.iload_n 2, 1) := dk_28 (dk_at dksX5_careful_0 11 rfl rfl)
theorem dX5_careful_12 : decode cX5_careful 12 = .ok (.i2l, 1) := dk_133 (dk_at dksX5_careful_0 12 rfl rfl)
theorem dX5_careful_13 : decode cX5_careful 13 = .ok (.lconst 1, 1) := dk_10 (dk_at dksX5_careful_0 13 rfl rfl)
theorem dX5_careful_14 : decode cX5_careful 14 = .ok (.ladd, 1) := dk_97 (dk_at dksX5_careful_0 14 rfl rfl)
theorem dX5_careful_15 : decode cX5_careful 15 = .ok (.iconst 0, 1) := dk_3 (dk_at dksX5_careful_0 15 rfl rfl)
theorem dX5_careful_16 : decode cX5_careful 16 = .ok (.bipush 10, 2) := dk_16 10 (dk_at dksX5_careful_0 16 rfl rfl)
theorem dX5_careful_18 : decode cX5_careful 18 = .ok (.invokestatic 397, 3) := dk_184 1 141 (dk_at dksX5_careful_0 18 rfl rfl)
theorem dX5_careful_21 : decode cX5_careful 21 = .ok (.iadd, 1) := dk_96 (dk_at dksX5_careful_0 21 rfl rfl)
theorem dX5_careful_22 : decode cX5_careful 22 = .ok (.iaload, 1) := dk_46 (dk_at dksX5_careful_0 22 rfl rfl)
theorem dX5_careful_23 : decode cX5_careful 23 = .ok (.aload_n 0, 1) := dk_42 (dk_at dksX5_careful_0 23 rfl rfl)
theorem dX5_careful_24 : decode cX5_careful 24 = .ok (.getfield 13, 3) := dk_180 0 13 (dk_at dksX5_careful_1 0 rfl rfl)
theorem dX5_careful_27 : decode cX5_careful 27 = .ok (.bipush 123, 2) := dk_16 123 (dk_at dksX5_careful_1 3 rfl rfl)
theorem dX5_careful_29 : decode cX5_careful 29 = .ok (.iconst 3, 1) := dk_6 (dk_at dksX5_careful_1 5 rfl rfl)
theorem dX5_careful_30 : decode cX5_careful 30 = .ok (.iload_n 1, 1) := dk_27 (dk_at dksX5_careful_1 6 rfl rfl)
theorem dX5_careful_31 : decode cX5_careful 31 = .ok (.imul, 1) := dk_104 (dk_at dksX5_careful_1 7 rfl rfl)
theorem dX5_careful_32 : decode cX5_careful 32 = .ok (.iadd, 1) := dk_96 (dk_at dksX5_careful_1 8 rfl rfl)
theorem dX5_careful_33 : decode cX5_careful 33 = .ok (.iaload, 1) := dk_46 (dk_at dksX5_careful_1 9 rfl rfl)
theorem dX5_careful_34 : decode cX5_careful 34 = .ok (.isub, 1) := dk_100 (dk_at dksX5_careful_1 10 rfl rfl)
theorem dX5_careful_35 : decode cX5_careful 35 = .ok (.ireturn, 1) := dk_172 (dk_at dksX5_careful_1 11 rfl rfl)
abbrev cX5_bold : ByteArray := prog_22_method_92_code
def yX5_bold : MethodName := ⟨RX5, "bold", "(II)I"⟩
def dkwX5_bold_2 : List UInt8 := [116, 96, 172]
abbrev dktX5_bold_2 : List UInt8 := dkwX5_bold_2 ++ []
def dkwX5_bold_1 : List UInt8 := [96, 46, 28, 42, 180, 0, 13, 16, 123, 6, 27, 104, 96, 4, 96, 46, 161, 0, 7, 29, 167, 0, 5, 29]
abbrev dktX5_bold_1 : List UInt8 := dkwX5_bold_1 ++ dktX5_bold_2
def dkwX5_bold_0 : List UInt8 := [42, 180, 0, 13, 16, 123, 6, 27, 104, 96, 5, 96, 46, 62, 42, 180, 0, 113, 16, 11, 27, 104, 16, 11]
abbrev dktX5_bold_0 : List UInt8 := dkwX5_bold_0 ++ dktX5_bold_1
theorem dksX5_bold_0 : cX5_bold.data.toList.drop 0 = dktX5_bold_0 := by decide +kernel
theorem dksX5_bold_1 : cX5_bold.data.toList.drop 24 = dktX5_bold_1 := dk_seg dksX5_bold_0 24 rfl rfl
theorem dksX5_bold_2 : cX5_bold.data.toList.drop 48 = dktX5_bold_2 := dk_seg dksX5_bold_1 24 rfl rfl
theorem dX5_bold_0 : decode cX5_bold 0 = .ok (.aload_n 0, 1) := dk_42 (dk_at dksX5_bold_0 0 rfl rfl)
theorem dX5_bold_1 : decode cX5_bold 1 = .ok (.getfield 13, 3) := dk_180 0 13 (dk_at dksX5_bold_0 1 rfl rfl)
theorem dX5_bold_4 : decode cX5_bold 4 = .ok (.bipush 123, 2) := dk_16 123 (dk_at dksX5_bold_0 4 rfl rfl)
theorem dX5_bold_6 : decode cX5_bold 6 = .ok (.iconst 3, 1) := dk_6 (dk_at dksX5_bold_0 6 rfl rfl)
theorem dX5_bold_7 : decode cX5_bold 7 = .ok (.iload_n 1, 1) := dk_27 (dk_at dksX5_bold_0 7 rfl rfl)
theorem dX5_bold_8 : decode cX5_bold 8 = .ok (.imul, 1) := dk_104 (dk_at dksX5_bold_0 8 rfl rfl)
theorem dX5_bold_9 : decode cX5_bold 9 = .ok (.iadd, 1) := dk_96 (dk_at dksX5_bold_0 9 rfl rfl)
theorem dX5_bold_10 : decode cX5_bold 10 = .ok (.iconst 2, 1) := dk_5 (dk_at dksX5_bold_0 10 rfl rfl)
theorem dX5_bold_11 : decode cX5_bold 11 = .ok (.iadd, 1) := dk_96 (dk_at dksX5_bold_0 11 rfl rfl)
theorem dX5_bold_12 : decode cX5_bold 12 = .ok (.iaload, 1) := dk_46 (dk_at dksX5_bold_0 12 rfl rfl)
theorem dX5_bold_13 : decode cX5_bold 13 = .ok (.istore_n 3, 1) := dk_62 (dk_at dksX5_bold_0 13 rfl rfl)
theorem dX5_bold_14 : decode cX5_bold 14 = .ok (.aload_n 0, 1) := dk_42 (dk_at dksX5_bold_0 14 rfl rfl)
theorem dX5_bold_15 : decode cX5_bold 15 = .ok (.getfield 113, 3) := dk_180 0 113 (dk_at dksX5_bold_0 15 rfl rfl)
theorem dX5_bold_18 : decode cX5_bold 18 = .ok (.bipush 11, 2) := dk_16 11 (dk_at dksX5_bold_0 18 rfl rfl)
theorem dX5_bold_20 : decode cX5_bold 20 = .ok (.iload_n 1, 1) := dk_27 (dk_at dksX5_bold_0 20 rfl rfl)
theorem dX5_bold_21 : decode cX5_bold 21 = .ok (.imul, 1) := dk_104 (dk_at dksX5_bold_0 21 rfl rfl)
theorem dX5_bold_22 : decode cX5_bold 22 = .ok (.bipush 11, 2) := dk_16 11 (dk_at dksX5_bold_0 22 rfl rfl)
theorem dX5_bold_24 : decode cX5_bold 24 = .ok (.iadd, 1) := dk_96 (dk_at dksX5_bold_1 0 rfl rfl)
theorem dX5_bold_25 : decode cX5_bold 25 = .ok (.iaload, 1) := dk_46 (dk_at dksX5_bold_1 1 rfl rfl)
theorem dX5_bold_26 : decode cX5_bold 26 = .ok (.iload_n 2, 1) := dk_28 (dk_at dksX5_bold_1 2 rfl rfl)
theorem dX5_bold_27 : decode cX5_bold 27 = .ok (.aload_n 0, 1) := dk_42 (dk_at dksX5_bold_1 3 rfl rfl)
theorem dX5_bold_28 : decode cX5_bold 28 = .ok (.getfield 13, 3) := dk_180 0 13 (dk_at dksX5_bold_1 4 rfl rfl)
theorem dX5_bold_31 : decode cX5_bold 31 = .ok (.bipush 123, 2) := dk_16 123 (dk_at dksX5_bold_1 7 rfl rfl)
theorem dX5_bold_33 : decode cX5_bold 33 = .ok (.iconst 3, 1) := dk_6 (dk_at dksX5_bold_1 9 rfl rfl)
theorem dX5_bold_34 : decode cX5_bold 34 = .ok (.iload_n 1, 1) := dk_27 (dk_at dksX5_bold_1 10 rfl rfl)
theorem dX5_bold_35 : decode cX5_bold 35 = .ok (.imul, 1) := dk_104 (dk_at dksX5_bold_1 11 rfl rfl)
theorem dX5_bold_36 : decode cX5_bold 36 = .ok (.iadd, 1) := dk_96 (dk_at dksX5_bold_1 12 rfl rfl)
theorem dX5_bold_37 : decode cX5_bold 37 = .ok (.iconst 1, 1) := dk_4 (dk_at dksX5_bold_1 13 rfl rfl)
theorem dX5_bold_38 : decode cX5_bold 38 = .ok (.iadd, 1) := dk_96 (dk_at dksX5_bold_1 14 rfl rfl)
theorem dX5_bold_39 : decode cX5_bold 39 = .ok (.iaload, 1) := dk_46 (dk_at dksX5_bold_1 15 rfl rfl)
theorem dX5_bold_40 : decode cX5_bold 40 = .ok (.if_icmp .lt 7, 3) := dk_161 0 7 (dk_at dksX5_bold_1 16 rfl rfl)
theorem dX5_bold_43 : decode cX5_bold 43 = .ok (.iload_n 3, 1) := dk_29 (dk_at dksX5_bold_1 19 rfl rfl)
theorem dX5_bold_44 : decode cX5_bold 44 = .ok (.goto 5, 3) := dk_167 0 5 (dk_at dksX5_bold_1 20 rfl rfl)
theorem dX5_bold_47 : decode cX5_bold 47 = .ok (.iload_n 3, 1) := dk_29 (dk_at dksX5_bold_1 23 rfl rfl)
theorem dX5_bold_48 : decode cX5_bold 48 = .ok (.ineg, 1) := dk_116 (dk_at dksX5_bold_2 0 rfl rfl)
theorem dX5_bold_49 : decode cX5_bold 49 = .ok (.iadd, 1) := dk_96 (dk_at dksX5_bold_2 1 rfl rfl)
theorem dX5_bold_50 : decode cX5_bold 50 = .ok (.ireturn, 1) := dk_172 (dk_at dksX5_bold_2 2 rfl rfl)
abbrev cX5_fire : ByteArray := prog_22_method_94_code
def yX5_fire : MethodName := ⟨RX5, "fire", "(I)I"⟩
def dkwX5_fire_2 : List UInt8 := [16, 91, 28, 96, 27, 79, 42, 180, 0, 13, 5, 92, 46, 4, 96, 79, 42, 28, 182, 0, 155, 172]
abbrev dktX5_fire_2 : List UInt8 := dkwX5_fire_2 ++ []
def dkwX5_fire_1 : List UInt8 := [180, 0, 13, 5, 46, 61, 28, 16, 10, 160, 0, 10, 42, 16, 251, 182, 0, 155, 172, 42, 180, 0, 13]
abbrev dktX5_fire_1 : List UInt8 := dkwX5_fire_1 ++ dktX5_fire_2
def dkwX5_fire_0 : List UInt8 := [42, 3, 181, 0, 142, 27, 133, 9, 20, 1, 215, 184, 0, 162, 154, 0, 9, 42, 2, 182, 0, 155, 172, 42]
abbrev dktX5_fire_0 : List UInt8 := dkwX5_fire_0 ++ dktX5_fire_1
theorem dksX5_fire_0 : cX5_fire.data.toList.drop 0 = dktX5_fire_0 := by decide +kernel
theorem dksX5_fire_1 : cX5_fire.data.toList.drop 24 = dktX5_fire_1 := dk_seg dksX5_fire_0 24 rfl rfl
theorem dksX5_fire_2 : cX5_fire.data.toList.drop 47 = dktX5_fire_2 := dk_seg dksX5_fire_1 23 rfl rfl
theorem dX5_fire_0 : decode cX5_fire 0 = .ok (.aload_n 0, 1) := dk_42 (dk_at dksX5_fire_0 0 rfl rfl)
theorem dX5_fire_1 : decode cX5_fire 1 = .ok (.iconst 0, 1) := dk_3 (dk_at dksX5_fire_0 1 rfl rfl)
theorem dX5_fire_2 : decode cX5_fire 2 = .ok (.putfield 142, 3) := dk_181 0 142 (dk_at dksX5_fire_0 2 rfl rfl)
theorem dX5_fire_5 : decode cX5_fire 5 = .ok (.iload_n 1, 1) := dk_27 (dk_at dksX5_fire_0 5 rfl rfl)
theorem dX5_fire_6 : decode cX5_fire 6 = .ok (.i2l, 1) := dk_133 (dk_at dksX5_fire_0 6 rfl rfl)
theorem dX5_fire_7 : decode cX5_fire 7 = .ok (.lconst 0, 1) := dk_9 (dk_at dksX5_fire_0 7 rfl rfl)
theorem dX5_fire_8 : decode cX5_fire 8 = .ok (.ldc2_w 471, 3) := dk_20 1 215 (dk_at dksX5_fire_0 8 rfl rfl)
theorem dX5_fire_11 : decode cX5_fire 11 = .ok (.invokestatic 162, 3) := dk_184 0 162 (dk_at dksX5_fire_0 11 rfl rfl)
theorem dX5_fire_14 : decode cX5_fire 14 = .ok (.ifCond .ne 9, 3) := dk_154 0 9 (dk_at dksX5_fire_0 14 rfl rfl)
theorem dX5_fire_17 : decode cX5_fire 17 = .ok (.aload_n 0, 1) := dk_42 (dk_at dksX5_fire_0 17 rfl rfl)
theorem dX5_fire_18 : decode cX5_fire 18 = .ok (.iconst (-1), 1) := dk_2 (dk_at dksX5_fire_0 18 rfl rfl)
theorem dX5_fire_19 : decode cX5_fire 19 = .ok (.invokevirtual 155, 3) := dk_182 0 155 (dk_at dksX5_fire_0 19 rfl rfl)
theorem dX5_fire_22 : decode cX5_fire 22 = .ok (.ireturn, 1) := dk_172 (dk_at dksX5_fire_0 22 rfl rfl)
theorem dX5_fire_23 : decode cX5_fire 23 = .ok (.aload_n 0, 1) := dk_42 (dk_at dksX5_fire_0 23 rfl rfl)
theorem dX5_fire_24 : decode cX5_fire 24 = .ok (.getfield 13, 3) := dk_180 0 13 (dk_at dksX5_fire_1 0 rfl rfl)
theorem dX5_fire_27 : decode cX5_fire 27 = .ok (.iconst 2, 1) := dk_5 (dk_at dksX5_fire_1 3 rfl rfl)
theorem dX5_fire_28 : decode cX5_fire 28 = .ok (.iaload, 1) := dk_46 (dk_at dksX5_fire_1 4 rfl rfl)
theorem dX5_fire_29 : decode cX5_fire 29 = .ok (.istore_n 2, 1) := dk_61 (dk_at dksX5_fire_1 5 rfl rfl)
theorem dX5_fire_30 : decode cX5_fire 30 = .ok (.iload_n 2, 1) := dk_28 (dk_at dksX5_fire_1 6 rfl rfl)
theorem dX5_fire_31 : decode cX5_fire 31 = .ok (.bipush 10, 2) := dk_16 10 (dk_at dksX5_fire_1 7 rfl rfl)
theorem dX5_fire_33 : decode cX5_fire 33 = .ok (.if_icmp .ne 10, 3) := dk_160 0 10 (dk_at dksX5_fire_1 9 rfl rfl)
theorem dX5_fire_36 : decode cX5_fire 36 = .ok (.aload_n 0, 1) := dk_42 (dk_at dksX5_fire_1 12 rfl rfl)
theorem dX5_fire_37 : decode cX5_fire 37 = .ok (.bipush (-5), 2) := dk_16 251 (dk_at dksX5_fire_1 13 rfl rfl)
theorem dX5_fire_39 : decode cX5_fire 39 = .ok (.invokevirtual 155, 3) := dk_182 0 155 (dk_at dksX5_fire_1 15 rfl rfl)
theorem dX5_fire_42 : decode cX5_fire 42 = .ok (.ireturn, 1) := dk_172 (dk_at dksX5_fire_1 18 rfl rfl)
theorem dX5_fire_43 : decode cX5_fire 43 = .ok (.aload_n 0, 1) := dk_42 (dk_at dksX5_fire_1 19 rfl rfl)
theorem dX5_fire_44 : decode cX5_fire 44 = .ok (.getfield 13, 3) := dk_180 0 13 (dk_at dksX5_fire_1 20 rfl rfl)
theorem dX5_fire_47 : decode cX5_fire 47 = .ok (.bipush 91, 2) := dk_16 91 (dk_at dksX5_fire_2 0 rfl rfl)
theorem dX5_fire_49 : decode cX5_fire 49 = .ok (.iload_n 2, 1) := dk_28 (dk_at dksX5_fire_2 2 rfl rfl)
theorem dX5_fire_50 : decode cX5_fire 50 = .ok (.iadd, 1) := dk_96 (dk_at dksX5_fire_2 3 rfl rfl)
theorem dX5_fire_51 : decode cX5_fire 51 = .ok (.iload_n 1, 1) := dk_27 (dk_at dksX5_fire_2 4 rfl rfl)
theorem dX5_fire_52 : decode cX5_fire 52 = .ok (.iastore, 1) := dk_79 (dk_at dksX5_fire_2 5 rfl rfl)
theorem dX5_fire_53 : decode cX5_fire 53 = .ok (.aload_n 0, 1) := dk_42 (dk_at dksX5_fire_2 6 rfl rfl)
theorem dX5_fire_54 : decode cX5_fire 54 = .ok (.getfield 13, 3) := dk_180 0 13 (dk_at dksX5_fire_2 7 rfl rfl)
theorem dX5_fire_57 : decode cX5_fire 57 = .ok (.iconst 2, 1) := dk_5 (dk_at dksX5_fire_2 10 rfl rfl)
theorem dX5_fire_58 : decode cX5_fire 58 = .ok (.dup2, 1) := dk_92 (dk_at dksX5_fire_2 11 rfl rfl)
theorem dX5_fire_59 : decode cX5_fire 59 = .ok (.iaload, 1) := dk_46 (dk_at dksX5_fire_2 12 rfl rfl)
theorem dX5_fire_60 : decode cX5_fire 60 = .ok (.iconst 1, 1) := dk_4 (dk_at dksX5_fire_2 13 rfl rfl)
theorem dX5_fire_61 : decode cX5_fire 61 = .ok (.iadd, 1) := dk_96 (dk_at dksX5_fire_2 14 rfl rfl)
theorem dX5_fire_62 : decode cX5_fire 62 = .ok (.iastore, 1) := dk_79 (dk_at dksX5_fire_2 15 rfl rfl)
theorem dX5_fire_63 : decode cX5_fire 63 = .ok (.aload_n 0, 1) := dk_42 (dk_at dksX5_fire_2 16 rfl rfl)
theorem dX5_fire_64 : decode cX5_fire 64 = .ok (.iload_n 2, 1) := dk_28 (dk_at dksX5_fire_2 17 rfl rfl)
theorem dX5_fire_65 : decode cX5_fire 65 = .ok (.invokevirtual 155, 3) := dk_182 0 155 (dk_at dksX5_fire_2 18 rfl rfl)
theorem dX5_fire_68 : decode cX5_fire 68 = .ok (.ireturn, 1) := dk_172 (dk_at dksX5_fire_2 21 rfl rfl)
abbrev cX5_needs : ByteArray := prog_22_method_95_code
def yX5_needs : MethodName := ⟨RX5, "needs", "(II)I"⟩
def dkwX5_needs_1 : List UInt8 := [184, 0, 162, 153, 0, 15, 42, 16, 101, 27, 96, 28, 182, 0, 206, 167, 0, 8, 42, 2, 182, 0, 155, 172]
abbrev dktX5_needs_1 : List UInt8 := dkwX5_needs_1 ++ []
def dkwX5_needs_0 : List UInt8 := [42, 3, 181, 0, 142, 27, 133, 9, 20, 0, 166, 184, 0, 162, 153, 0, 27, 28, 133, 9, 20, 0, 211]
abbrev dktX5_needs_0 : List UInt8 := dkwX5_needs_0 ++ dktX5_needs_1
theorem dksX5_needs_0 : cX5_needs.data.toList.drop 0 = dktX5_needs_0 := by decide +kernel
theorem dksX5_needs_1 : cX5_needs.data.toList.drop 23 = dktX5_needs_1 := dk_seg dksX5_needs_0 23 rfl rfl
theorem dX5_needs_0 : decode cX5_needs 0 = .ok (.aload_n 0, 1) := dk_42 (dk_at dksX5_needs_0 0 rfl rfl)
theorem dX5_needs_1 : decode cX5_needs 1 = .ok (.iconst 0, 1) := dk_3 (dk_at dksX5_needs_0 1 rfl rfl)
theorem dX5_needs_2 : decode cX5_needs 2 = .ok (.putfield 142, 3) := dk_181 0 142 (dk_at dksX5_needs_0 2 rfl rfl)
theorem dX5_needs_5 : decode cX5_needs 5 = .ok (.iload_n 1, 1) := dk_27 (dk_at dksX5_needs_0 5 rfl rfl)
theorem dX5_needs_6 : decode cX5_needs 6 = .ok (.i2l, 1) := dk_133 (dk_at dksX5_needs_0 6 rfl rfl)
theorem dX5_needs_7 : decode cX5_needs 7 = .ok (.lconst 0, 1) := dk_9 (dk_at dksX5_needs_0 7 rfl rfl)
theorem dX5_needs_8 : decode cX5_needs 8 = .ok (.ldc2_w 166, 3) := dk_20 0 166 (dk_at dksX5_needs_0 8 rfl rfl)
theorem dX5_needs_11 : decode cX5_needs 11 = .ok (.invokestatic 162, 3) := dk_184 0 162 (dk_at dksX5_needs_0 11 rfl rfl)
theorem dX5_needs_14 : decode cX5_needs 14 = .ok (.ifCond .eq 27, 3) := dk_153 0 27 (dk_at dksX5_needs_0 14 rfl rfl)
theorem dX5_needs_17 : decode cX5_needs 17 = .ok (.iload_n 2, 1) := dk_28 (dk_at dksX5_needs_0 17 rfl rfl)
theorem dX5_needs_18 : decode cX5_needs 18 = .ok (.i2l, 1) := dk_133 (dk_at dksX5_needs_0 18 rfl rfl)
theorem dX5_needs_19 : decode cX5_needs 19 = .ok (.lconst 0, 1) := dk_9 (dk_at dksX5_needs_0 19 rfl rfl)
theorem dX5_needs_20 : decode cX5_needs 20 = .ok (.ldc2_w 211, 3) := dk_20 0 211 (dk_at dksX5_needs_0 20 rfl rfl)
theorem dX5_needs_23 : decode cX5_needs 23 = .ok (.invokestatic 162, 3) := dk_184 0 162 (dk_at dksX5_needs_1 0 rfl rfl)
theorem dX5_needs_26 : decode cX5_needs 26 = .ok (.ifCond .eq 15, 3) := dk_153 0 15 (dk_at dksX5_needs_1 3 rfl rfl)
theorem dX5_needs_29 : decode cX5_needs 29 = .ok (.aload_n 0, 1) := dk_42 (dk_at dksX5_needs_1 6 rfl rfl)
theorem dX5_needs_30 : decode cX5_needs 30 = .ok (.bipush 101, 2) := dk_16 101 (dk_at dksX5_needs_1 7 rfl rfl)
theorem dX5_needs_32 : decode cX5_needs 32 = .ok (.iload_n 1, 1) := dk_27 (dk_at dksX5_needs_1 9 rfl rfl)
theorem dX5_needs_33 : decode cX5_needs 33 = .ok (.iadd, 1) := dk_96 (dk_at dksX5_needs_1 10 rfl rfl)
theorem dX5_needs_34 : decode cX5_needs 34 = .ok (.iload_n 2, 1) := dk_28 (dk_at dksX5_needs_1 11 rfl rfl)
theorem dX5_needs_35 : decode cX5_needs 35 = .ok (.invokevirtual 206, 3) := dk_182 0 206 (dk_at dksX5_needs_1 12 rfl rfl)
theorem dX5_needs_38 : decode cX5_needs 38 = .ok (.goto 8, 3) := dk_167 0 8 (dk_at dksX5_needs_1 15 rfl rfl)
theorem dX5_needs_41 : decode cX5_needs 41 = .ok (.aload_n 0, 1) := dk_42 (dk_at dksX5_needs_1 18 rfl rfl)
theorem dX5_needs_42 : decode cX5_needs 42 = .ok (.iconst (-1), 1) := dk_2 (dk_at dksX5_needs_1 19 rfl rfl)
theorem dX5_needs_43 : decode cX5_needs 43 = .ok (.invokevirtual 155, 3) := dk_182 0 155 (dk_at dksX5_needs_1 20 rfl rfl)
theorem dX5_needs_46 : decode cX5_needs 46 = .ok (.ireturn, 1) := dk_172 (dk_at dksX5_needs_1 23 rfl rfl)
abbrev cX5_enough : ByteArray := prog_22_method_97_code
def yX5_enough : MethodName := ⟨RX5, "enough", "(I)I"⟩
def dkwX5_enough_6 : List UInt8 := [27, 4, 160, 0, 7, 29, 167, 0, 4, 28, 172]
abbrev dktX5_enough_6 : List UInt8 := dkwX5_enough_6 ++ []
def dkwX5_enough_5 : List UInt8 := [153, 0, 11, 21, 4, 184, 1, 217, 167, 0, 4, 28, 61, 132, 4, 1, 167, 255, 148, 29, 2, 159, 0, 8]
abbrev dktX5_enough_5 : List UInt8 := dkwX5_enough_5 ++ dktX5_enough_6
def dkwX5_enough_4 : List UInt8 := [3, 54, 5, 132, 6, 1, 167, 255, 213, 21, 5, 153, 0, 8, 21, 4, 167, 0, 4, 29, 62, 21, 5]
abbrev dktX5_enough_4 : List UInt8 := dkwX5_enough_4 ++ dktX5_enough_5
def dkwX5_enough_3 : List UInt8 := [21, 6, 21, 4, 182, 1, 220, 42, 180, 0, 13, 16, 101, 21, 6, 96, 46, 161, 0, 7, 4, 167, 0, 4]
abbrev dktX5_enough_3 : List UInt8 := dkwX5_enough_3 ++ dktX5_enough_4
def dkwX5_enough_2 : List UInt8 := [4, 167, 0, 4, 3, 54, 5, 3, 54, 6, 21, 6, 16, 6, 162, 0, 42, 21, 5, 153, 0, 37, 42]
abbrev dktX5_enough_2 : List UInt8 := dkwX5_enough_2 ++ dktX5_enough_3
def dkwX5_enough_1 : List UInt8 := [54, 4, 21, 4, 4, 42, 180, 0, 13, 5, 46, 120, 162, 0, 101, 21, 4, 184, 1, 217, 28, 162, 0, 7]
abbrev dktX5_enough_1 : List UInt8 := dkwX5_enough_1 ++ dktX5_enough_2
def dkwX5_enough_0 : List UInt8 := [42, 3, 181, 0, 142, 27, 133, 9, 10, 184, 0, 162, 154, 0, 5, 2, 172, 19, 1, 190, 61, 2, 62, 3]
abbrev dktX5_enough_0 : List UInt8 := dkwX5_enough_0 ++ dktX5_enough_1
theorem dksX5_enough_0 : cX5_enough.data.toList.drop 0 = dktX5_enough_0 := by decide +kernel
theorem dksX5_enough_1 : cX5_enough.data.toList.drop 24 = dktX5_enough_1 := dk_seg dksX5_enough_0 24 rfl rfl
theorem dksX5_enough_2 : cX5_enough.data.toList.drop 48 = dktX5_enough_2 := dk_seg dksX5_enough_1 24 rfl rfl
theorem dksX5_enough_3 : cX5_enough.data.toList.drop 71 = dktX5_enough_3 := dk_seg dksX5_enough_2 23 rfl rfl
theorem dksX5_enough_4 : cX5_enough.data.toList.drop 95 = dktX5_enough_4 := dk_seg dksX5_enough_3 24 rfl rfl
theorem dksX5_enough_5 : cX5_enough.data.toList.drop 118 = dktX5_enough_5 := dk_seg dksX5_enough_4 23 rfl rfl
theorem dksX5_enough_6 : cX5_enough.data.toList.drop 142 = dktX5_enough_6 := dk_seg dksX5_enough_5 24 rfl rfl
theorem dX5_enough_0 : decode cX5_enough 0 = .ok (.aload_n 0, 1) := dk_42 (dk_at dksX5_enough_0 0 rfl rfl)
theorem dX5_enough_1 : decode cX5_enough 1 = .ok (.iconst 0, 1) := dk_3 (dk_at dksX5_enough_0 1 rfl rfl)
theorem dX5_enough_2 : decode cX5_enough 2 = .ok (.putfield 142, 3) := dk_181 0 142 (dk_at dksX5_enough_0 2 rfl rfl)
theorem dX5_enough_5 : decode cX5_enough 5 = .ok (.iload_n 1, 1) := dk_27 (dk_at dksX5_enough_0 5 rfl rfl)
theorem dX5_enough_6 : decode cX5_enough 6 = .ok (.i2l, 1) := dk_133 (dk_at dksX5_enough_0 6 rfl rfl)
theorem dX5_enough_7 : decode cX5_enough 7 = .ok (.lconst 0, 1) := dk_9 (dk_at dksX5_enough_0 7 rfl rfl)
theorem dX5_enough_8 : decode cX5_enough 8 = .ok (.lconst 1, 1) := dk_10 (dk_at dksX5_enough_0 8 rfl rfl)
theorem dX5_enough_9 : decode cX5_enough 9 = .ok (.invokestatic 162, 3) := dk_184 0 162 (dk_at dksX5_enough_0 9 rfl rfl)
theorem dX5_enough_12 : decode cX5_enough 12 = .ok (.ifCond .ne 5, 3) := dk_154 0 5 (dk_at dksX5_enough_0 12 rfl rfl)
theorem dX5_enough_15 : decode cX5_enough 15 = .ok (.iconst (-1), 1) := dk_2 (dk_at dksX5_enough_0 15 rfl rfl)
theorem dX5_enough_16 : decode cX5_enough 16 = .ok (.ireturn, 1) := dk_172 (dk_at dksX5_enough_0 16 rfl rfl)
theorem dX5_enough_17 : decode cX5_enough 17 = .ok (.ldc_w 446, 3) := dk_19 1 190 (dk_at dksX5_enough_0 17 rfl rfl)
theorem dX5_enough_20 : decode cX5_enough 20 = .ok (.istore_n 2, 1) := dk_61 (dk_at dksX5_enough_0 20 rfl rfl)
theorem dX5_enough_21 : decode cX5_enough 21 = .ok (.iconst (-1), 1) := dk_2 (dk_at dksX5_enough_0 21 rfl rfl)
theorem dX5_enough_22 : decode cX5_enough 22 = .ok (.istore_n 3, 1) := dk_62 (dk_at dksX5_enough_0 22 rfl rfl)
theorem dX5_enough_23 : decode cX5_enough 23 = .ok (.iconst 0, 1) := dk_3 (dk_at dksX5_enough_0 23 rfl rfl)
theorem dX5_enough_24 : decode cX5_enough 24 = .ok (.istore 4, 2) := dk_54 4 (dk_at dksX5_enough_1 0 rfl rfl)
theorem dX5_enough_26 : decode cX5_enough 26 = .ok (.iload 4, 2) := dk_21 4 (dk_at dksX5_enough_1 2 rfl rfl)
theorem dX5_enough_28 : decode cX5_enough 28 = .ok (.iconst 1, 1) := dk_4 (dk_at dksX5_enough_1 4 rfl rfl)
theorem dX5_enough_29 : decode cX5_enough 29 = .ok (.aload_n 0, 1) := dk_42 (dk_at dksX5_enough_1 5 rfl rfl)
theorem dX5_enough_30 : decode cX5_enough 30 = .ok (.getfield 13, 3) := dk_180 0 13 (dk_at dksX5_enough_1 6 rfl rfl)
theorem dX5_enough_33 : decode cX5_enough 33 = .ok (.iconst 2, 1) := dk_5 (dk_at dksX5_enough_1 9 rfl rfl)
theorem dX5_enough_34 : decode cX5_enough 34 = .ok (.iaload, 1) := dk_46 (dk_at dksX5_enough_1 10 rfl rfl)
theorem dX5_enough_35 : decode cX5_enough 35 = .ok (.ishl, 1) := dk_120 (dk_at dksX5_enough_1 11 rfl rfl)
theorem dX5_enough_36 : decode cX5_enough 36 = .ok (.if_icmp .ge 101, 3) := dk_162 0 101 (dk_at dksX5_enough_1 12 rfl rfl)
theorem dX5_enough_39 : decode cX5_enough 39 = .ok (.iload 4, 2) := dk_21 4 (dk_at dksX5_enough_1 15 rfl rfl)
theorem dX5_enough_41 : decode cX5_enough 41 = .ok (.invokestatic 473, 3) := dk_184 1 217 (dk_at dksX5_enough_1 17 rfl rfl)
theorem dX5_enough_44 : decode cX5_enough 44 = .ok (.iload_n 2, 1) := dk_28 (dk_at dksX5_enough_1 20 rfl rfl)
theorem dX5_enough_45 : decode cX5_enough 45 = .ok (.if_icmp .ge 7, 3) := dk_162 0 7 (dk_at dksX5_enough_1 21 rfl rfl)
theorem dX5_enough_48 : decode cX5_enough 48 = .ok (.iconst 1, 1) := dk_4 (dk_at dksX5_enough_2 0 rfl rfl)
theorem dX5_enough_49 : decode cX5_enough 49 = .ok (.goto 4, 3) := dk_167 0 4 (dk_at dksX5_enough_2 1 rfl rfl)
theorem dX5_enough_52 : decode cX5_enough 52 = .ok (.iconst 0, 1) := dk_3 (dk_at dksX5_enough_2 4 rfl rfl)
theorem dX5_enough_53 : decode cX5_enough 53 = .ok (.istore 5, 2) := dk_54 5 (dk_at dksX5_enough_2 5 rfl rfl)
theorem dX5_enough_55 : decode cX5_enough 55 = .ok (.iconst 0, 1) := dk_3 (dk_at dksX5_enough_2 7 rfl rfl)
theorem dX5_enough_56 : decode cX5_enough 56 = .ok (.istore 6, 2) := dk_54 6 (dk_at dksX5_enough_2 8 rfl rfl)
theorem dX5_enough_58 : decode cX5_enough 58 = .ok (.iload 6, 2) := dk_21 6 (dk_at dksX5_enough_2 10 rfl rfl)
theorem dX5_enough_60 : decode cX5_enough 60 = .ok (.bipush 6, 2) := dk_16 6 (dk_at dksX5_enough_2 12 rfl rfl)
theorem dX5_enough_62 : decode cX5_enough 62 = .ok (.if_icmp .ge 42, 3) := dk_162 0 42 (dk_at dksX5_enough_2 14 rfl rfl)
theorem dX5_enough_65 : decode cX5_enough 65 = .ok (.iload 5, 2) := dk_21 5 (dk_at dksX5_enough_2 17 rfl rfl)
theorem dX5_enough_67 : decode cX5_enough 67 = .ok (.ifCond .eq 37, 3) := dk_153 0 37 (dk_at dksX5_enough_2 19 rfl rfl)
theorem dX5_enough_70 : decode cX5_enough 70 = .ok (.aload_n 0, 1) := dk_42 (dk_at dksX5_enough_2 22 rfl rfl)
theorem dX5_enough_71 : decode cX5_enough 71 = .ok (.iload 6, 2) := dk_21 6 (dk_at dksX5_enough_3 0 rfl rfl)
theorem dX5_enough_73 : decode cX5_enough 73 = .ok (.iload 4, 2) := dk_21 4 (dk_at dksX5_enough_3 2 rfl rfl)
theorem dX5_enough_75 : decode cX5_enough 75 = .ok (.invokevirtual 476, 3) := dk_182 1 220 (dk_at dksX5_enough_3 4 rfl rfl)
theorem dX5_enough_78 : decode cX5_enough 78 = .ok (.aload_n 0, 1) := dk_42 (dk_at dksX5_enough_3 7 rfl rfl)
theorem dX5_enough_79 : decode cX5_enough 79 = .ok (.getfield 13, 3) := dk_180 0 13 (dk_at dksX5_enough_3 8 rfl rfl)
theorem dX5_enough_82 : decode cX5_enough 82 = .ok (.bipush 101, 2) := dk_16 101 (dk_at dksX5_enough_3 11 rfl rfl)
theorem dX5_enough_84 : decode cX5_enough 84 = .ok (.iload 6, 2) := dk_21 6 (dk_at dksX5_enough_3 13 rfl rfl)
theorem dX5_enough_86 : decode cX5_enough 86 = .ok (.iadd, 1) := dk_96 (dk_at dksX5_enough_3 15 rfl rfl)
theorem dX5_enough_87 : decode cX5_enough 87 = .ok (.iaload, 1) := dk_46 (dk_at dksX5_enough_3 16 rfl rfl)
theorem dX5_enough_88 : decode cX5_enough 88 = .ok (.if_icmp .lt 7, 3) := dk_161 0 7 (dk_at dksX5_enough_3 17 rfl rfl)
theorem dX5_enough_91 : decode cX5_enough 91 = .ok (.iconst 1, 1) := dk_4 (dk_at dksX5_enough_3 20 rfl rfl)
theorem dX5_enough_92 : decode cX5_enough 92 = .ok (.goto 4, 3) := dk_167 0 4 (dk_at dksX5_enough_3 21 rfl rfl)
theorem dX5_enough_95 : decode cX5_enough 95 = .ok (.iconst 0, 1) := dk_3 (dk_at dksX5_enough_4 0 rfl rfl)
theorem dX5_enough_96 : decode cX5_enough 96 = .ok (.istore 5, 2) := dk_54 5 (dk_at dksX5_enough_4 1 rfl rfl)
theorem dX5_enough_98 : decode cX5_enough 98 = .ok (.iinc 6 1, 3) := dk_132 6 1 (dk_at dksX5_enough_4 3 rfl rfl)
theorem dX5_enough_101 : decode cX5_enough 101 = .ok (.goto (-43), 3) := dk_167 255 213 (dk_at dksX5_enough_4 6 rfl rfl)
theorem dX5_enough_104 : decode cX5_enough 104 = .ok (.iload 5, 2) := dk_21 5 (dk_at dksX5_enough_4 9 rfl rfl)
theorem dX5_enough_106 : decode cX5_enough 106 = .ok (.ifCond .eq 8, 3) := dk_153 0 8 (dk_at dksX5_enough_4 11 rfl rfl)
theorem dX5_enough_109 : decode cX5_enough 109 = .ok (.iload 4, 2) := dk_21 4 (dk_at dksX5_enough_4 14 rfl rfl)
theorem dX5_enough_111 : decode cX5_enough 111 = .ok (.goto 4, 3) := dk_167 0 4 (dk_at dksX5_enough_4 16 rfl rfl)
theorem dX5_enough_114 : decode cX5_enough 114 = .ok (.iload_n 3, 1) := dk_29 (dk_at dksX5_enough_4 19 rfl rfl)
theorem dX5_enough_115 : decode cX5_enough 115 = .ok (.istore_n 3, 1) := dk_62 (dk_at dksX5_enough_4 20 rfl rfl)
theorem dX5_enough_116 : decode cX5_enough 116 = .ok (.iload 5, 2) := dk_21 5 (dk_at dksX5_enough_4 21 rfl rfl)
theorem dX5_enough_118 : decode cX5_enough 118 = .ok (.ifCond .eq 11, 3) := dk_153 0 11 (dk_at dksX5_enough_5 0 rfl rfl)
theorem dX5_enough_121 : decode cX5_enough 121 = .ok (.iload 4, 2) := dk_21 4 (dk_at dksX5_enough_5 3 rfl rfl)
theorem dX5_enough_123 : decode cX5_enough 123 = .ok (.invokestatic 473, 3) := dk_184 1 217 (dk_at dksX5_enough_5 5 rfl rfl)
theorem dX5_enough_126 : decode cX5_enough 126 = .ok (.goto 4, 3) := dk_167 0 4 (dk_at dksX5_enough_5 8 rfl rfl)
theorem dX5_enough_129 : decode cX5_enough 129 = .ok (.iload_n 2, 1) := dk_28 (dk_at dksX5_enough_5 11 rfl rfl)
theorem dX5_enough_130 : decode cX5_enough 130 = .ok (.istore_n 2, 1) := dk_61 (dk_at dksX5_enough_5 12 rfl rfl)
theorem dX5_enough_131 : decode cX5_enough 131 = .ok (.iinc 4 1, 3) := dk_132 4 1 (dk_at dksX5_enough_5 13 rfl rfl)
theorem dX5_enough_134 : decode cX5_enough 134 = .ok (.goto (-108), 3) := dk_167 255 148 (dk_at dksX5_enough_5 16 rfl rfl)
theorem dX5_enough_137 : decode cX5_enough 137 = .ok (.iload_n 3, 1) := dk_29 (dk_at dksX5_enough_5 19 rfl rfl)
theorem dX5_enough_138 : decode cX5_enough 138 = .ok (.iconst (-1), 1) := dk_2 (dk_at dksX5_enough_5 20 rfl rfl)
theorem dX5_enough_139 : decode cX5_enough 139 = .ok (.if_icmp .eq 8, 3) := dk_159 0 8 (dk_at dksX5_enough_5 21 rfl rfl)
theorem dX5_enough_142 : decode cX5_enough 142 = .ok (.iload_n 1, 1) := dk_27 (dk_at dksX5_enough_6 0 rfl rfl)
theorem dX5_enough_143 : decode cX5_enough 143 = .ok (.iconst 1, 1) := dk_4 (dk_at dksX5_enough_6 1 rfl rfl)
theorem dX5_enough_144 : decode cX5_enough 144 = .ok (.if_icmp .ne 7, 3) := dk_160 0 7 (dk_at dksX5_enough_6 2 rfl rfl)
theorem dX5_enough_147 : decode cX5_enough 147 = .ok (.iload_n 3, 1) := dk_29 (dk_at dksX5_enough_6 5 rfl rfl)
theorem dX5_enough_148 : decode cX5_enough 148 = .ok (.goto 4, 3) := dk_167 0 4 (dk_at dksX5_enough_6 6 rfl rfl)
theorem dX5_enough_151 : decode cX5_enough 151 = .ok (.iload_n 2, 1) := dk_28 (dk_at dksX5_enough_6 9 rfl rfl)
theorem dX5_enough_152 : decode cX5_enough 152 = .ok (.ireturn, 1) := dk_172 (dk_at dksX5_enough_6 10 rfl rfl)
abbrev cX5_ones : ByteArray := prog_22_method_5_code
def yX5_ones : MethodName := ⟨RX5, "ones", "(I)I"⟩
def dkwX5_ones_1 : List UInt8 := [27, 172]
abbrev dktX5_ones_1 : List UInt8 := dkwX5_ones_1 ++ []
def dkwX5_ones_0 : List UInt8 := [3, 60, 3, 61, 28, 16, 10, 162, 0, 17, 27, 26, 28, 122, 4, 126, 96, 60, 132, 2, 1, 167, 255, 239]
abbrev dktX5_ones_0 : List UInt8 := dkwX5_ones_0 ++ dktX5_ones_1
theorem dksX5_ones_0 : cX5_ones.data.toList.drop 0 = dktX5_ones_0 := by decide +kernel
theorem dksX5_ones_1 : cX5_ones.data.toList.drop 24 = dktX5_ones_1 := dk_seg dksX5_ones_0 24 rfl rfl
theorem dX5_ones_0 : decode cX5_ones 0 = .ok (.iconst 0, 1) := dk_3 (dk_at dksX5_ones_0 0 rfl rfl)
theorem dX5_ones_1 : decode cX5_ones 1 = .ok (.istore_n 1, 1) := dk_60 (dk_at dksX5_ones_0 1 rfl rfl)
theorem dX5_ones_2 : decode cX5_ones 2 = .ok (.iconst 0, 1) := dk_3 (dk_at dksX5_ones_0 2 rfl rfl)
theorem dX5_ones_3 : decode cX5_ones 3 = .ok (.istore_n 2, 1) := dk_61 (dk_at dksX5_ones_0 3 rfl rfl)
theorem dX5_ones_4 : decode cX5_ones 4 = .ok (.iload_n 2, 1) := dk_28 (dk_at dksX5_ones_0 4 rfl rfl)
theorem dX5_ones_5 : decode cX5_ones 5 = .ok (.bipush 10, 2) := dk_16 10 (dk_at dksX5_ones_0 5 rfl rfl)
theorem dX5_ones_7 : decode cX5_ones 7 = .ok (.if_icmp .ge 17, 3) := dk_162 0 17 (dk_at dksX5_ones_0 7 rfl rfl)
theorem dX5_ones_10 : decode cX5_ones 10 = .ok (.iload_n 1, 1) := dk_27 (dk_at dksX5_ones_0 10 rfl rfl)
theorem dX5_ones_11 : decode cX5_ones 11 = .ok (.iload_n 0, 1) := dk_26 (dk_at dksX5_ones_0 11 rfl rfl)
theorem dX5_ones_12 : decode cX5_ones 12 = .ok (.iload_n 2, 1) := dk_28 (dk_at dksX5_ones_0 12 rfl rfl)
theorem dX5_ones_13 : decode cX5_ones 13 = .ok (.ishr, 1) := dk_122 (dk_at dksX5_ones_0 13 rfl rfl)
theorem dX5_ones_14 : decode cX5_ones 14 = .ok (.iconst 1, 1) := dk_4 (dk_at dksX5_ones_0 14 rfl rfl)
theorem dX5_ones_15 : decode cX5_ones 15 = .ok (.iand, 1) := dk_126 (dk_at dksX5_ones_0 15 rfl rfl)
theorem dX5_ones_16 : decode cX5_ones 16 = .ok (.iadd, 1) := dk_96 (dk_at dksX5_ones_0 16 rfl rfl)
theorem dX5_ones_17 : decode cX5_ones 17 = .ok (.istore_n 1, 1) := dk_60 (dk_at dksX5_ones_0 17 rfl rfl)
theorem dX5_ones_18 : decode cX5_ones 18 = .ok (.iinc 2 1, 3) := dk_132 2 1 (dk_at dksX5_ones_0 18 rfl rfl)
theorem dX5_ones_21 : decode cX5_ones 21 = .ok (.goto (-17), 3) := dk_167 255 239 (dk_at dksX5_ones_0 21 rfl rfl)
theorem dX5_ones_24 : decode cX5_ones 24 = .ok (.iload_n 1, 1) := dk_27 (dk_at dksX5_ones_1 0 rfl rfl)
theorem dX5_ones_25 : decode cX5_ones 25 = .ok (.ireturn, 1) := dk_172 (dk_at dksX5_ones_1 1 rfl rfl)
abbrev cX5_seenFrom : ByteArray := prog_22_method_96_code
def yX5_seenFrom : MethodName := ⟨RX5, "seenFrom", "(II)I"⟩
def dkwX5_seenFrom_2 : List UInt8 := [3, 96, 62, 132, 4, 1, 167, 255, 208, 29, 172]
abbrev dktX5_seenFrom_2 : List UInt8 := dkwX5_seenFrom_2 ++ []
def dkwX5_seenFrom_1 : List UInt8 := [153, 0, 24, 42, 180, 0, 13, 16, 91, 21, 4, 96, 46, 27, 184, 0, 170, 153, 0, 7, 4, 167, 0, 4]
abbrev dktX5_seenFrom_1 : List UInt8 := dkwX5_seenFrom_1 ++ dktX5_seenFrom_2
def dkwX5_seenFrom_0 : List UInt8 := [3, 62, 3, 54, 4, 21, 4, 42, 180, 0, 13, 5, 46, 162, 0, 43, 29, 28, 21, 4, 184, 0, 170]
abbrev dktX5_seenFrom_0 : List UInt8 := dkwX5_seenFrom_0 ++ dktX5_seenFrom_1
theorem dksX5_seenFrom_0 : cX5_seenFrom.data.toList.drop 0 = dktX5_seenFrom_0 := by decide +kernel
theorem dksX5_seenFrom_1 : cX5_seenFrom.data.toList.drop 23 = dktX5_seenFrom_1 := dk_seg dksX5_seenFrom_0 23 rfl rfl
theorem dksX5_seenFrom_2 : cX5_seenFrom.data.toList.drop 47 = dktX5_seenFrom_2 := dk_seg dksX5_seenFrom_1 24 rfl rfl
theorem dX5_seenFrom_0 : decode cX5_seenFrom 0 = .ok (.iconst 0, 1) := dk_3 (dk_at dksX5_seenFrom_0 0 rfl rfl)
theorem dX5_seenFrom_1 : decode cX5_seenFrom 1 = .ok (.istore_n 3, 1) := dk_62 (dk_at dksX5_seenFrom_0 1 rfl rfl)
theorem dX5_seenFrom_2 : decode cX5_seenFrom 2 = .ok (.iconst 0, 1) := dk_3 (dk_at dksX5_seenFrom_0 2 rfl rfl)
theorem dX5_seenFrom_3 : decode cX5_seenFrom 3 = .ok (.istore 4, 2) := dk_54 4 (dk_at dksX5_seenFrom_0 3 rfl rfl)
theorem dX5_seenFrom_5 : decode cX5_seenFrom 5 = .ok (.iload 4, 2) := dk_21 4 (dk_at dksX5_seenFrom_0 5 rfl rfl)
theorem dX5_seenFrom_7 : decode cX5_seenFrom 7 = .ok (.aload_n 0, 1) := dk_42 (dk_at dksX5_seenFrom_0 7 rfl rfl)
theorem dX5_seenFrom_8 : decode cX5_seenFrom 8 = .ok (.getfield 13, 3) := dk_180 0 13 (dk_at dksX5_seenFrom_0 8 rfl rfl)
theorem dX5_seenFrom_11 : decode cX5_seenFrom 11 = .ok (.iconst 2, 1) := dk_5 (dk_at dksX5_seenFrom_0 11 rfl rfl)
theorem dX5_seenFrom_12 : decode cX5_seenFrom 12 = .ok (.iaload, 1) := dk_46 (dk_at dksX5_seenFrom_0 12 rfl rfl)
theorem dX5_seenFrom_13 : decode cX5_seenFrom 13 = .ok (.if_icmp .ge 43, 3) := dk_162 0 43 (dk_at dksX5_seenFrom_0 13 rfl rfl)
theorem dX5_seenFrom_16 : decode cX5_seenFrom 16 = .ok (.iload_n 3, 1) := dk_29 (dk_at dksX5_seenFrom_0 16 rfl rfl)
theorem dX5_seenFrom_17 : decode cX5_seenFrom 17 = .ok (.iload_n 2, 1) := dk_28 (dk_at dksX5_seenFrom_0 17 rfl rfl)
theorem dX5_seenFrom_18 : decode cX5_seenFrom 18 = .ok (.iload 4, 2) := dk_21 4 (dk_at dksX5_seenFrom_0 18 rfl rfl)
theorem dX5_seenFrom_20 : decode cX5_seenFrom 20 = .ok (.invokestatic 170, 3) := dk_184 0 170 (dk_at dksX5_seenFrom_0 20 rfl rfl)
theorem dX5_seenFrom_23 : decode cX5_seenFrom 23 = .ok (.ifCond .eq 24, 3) := dk_153 0 24 (dk_at dksX5_seenFrom_1 0 rfl rfl)
theorem dX5_seenFrom_26 : decode cX5_seenFrom 26 = .ok (.aload_n 0, 1) := dk_42 (dk_at dksX5_seenFrom_1 3 rfl rfl)
theorem dX5_seenFrom_27 : decode cX5_seenFrom 27 = .ok (.getfield 13, 3) := dk_180 0 13 (dk_at dksX5_seenFrom_1 4 rfl rfl)
theorem dX5_seenFrom_30 : decode cX5_seenFrom 30 = .ok (.bipush 91, 2) := dk_16 91 (dk_at dksX5_seenFrom_1 7 rfl rfl)
theorem dX5_seenFrom_32 : decode cX5_seenFrom 32 = .ok (.iload 4, 2) := dk_21 4 (dk_at dksX5_seenFrom_1 9 rfl rfl)
theorem dX5_seenFrom_34 : decode cX5_seenFrom 34 = .ok (.iadd, 1) := dk_96 (dk_at dksX5_seenFrom_1 11 rfl rfl)
theorem dX5_seenFrom_35 : decode cX5_seenFrom 35 = .ok (.iaload, 1) := dk_46 (dk_at dksX5_seenFrom_1 12 rfl rfl)
theorem dX5_seenFrom_36 : decode cX5_seenFrom 36 = .ok (.iload_n 1, 1) := dk_27 (dk_at dksX5_seenFrom_1 13 rfl rfl)
theorem dX5_seenFrom_37 : decode cX5_seenFrom 37 = .ok (.invokestatic 170, 3) := dk_184 0 170 (dk_at dksX5_seenFrom_1 14 rfl rfl)
theorem dX5_seenFrom_40 : decode cX5_seenFrom 40 = .ok (.ifCond .eq 7, 3) := dk_153 0 7 (dk_at dksX5_seenFrom_1 17 rfl rfl)
theorem dX5_seenFrom_43 : decode cX5_seenFrom 43 = .ok (.iconst 1, 1) := dk_4 (dk_at dksX5_seenFrom_1 20 rfl rfl)
theorem dX5_seenFrom_44 : decode cX5_seenFrom 44 = .ok (.goto 4, 3) := dk_167 0 4 (dk_at dksX5_seenFrom_1 21 rfl rfl)
theorem dX5_seenFrom_47 : decode cX5_seenFrom 47 = .ok (.iconst 0, 1) := dk_3 (dk_at dksX5_seenFrom_2 0 rfl rfl)
theorem dX5_seenFrom_48 : decode cX5_seenFrom 48 = .ok (.iadd, 1) := dk_96 (dk_at dksX5_seenFrom_2 1 rfl rfl)
theorem dX5_seenFrom_49 : decode cX5_seenFrom 49 = .ok (.istore_n 3, 1) := dk_62 (dk_at dksX5_seenFrom_2 2 rfl rfl)
theorem dX5_seenFrom_50 : decode cX5_seenFrom 50 = .ok (.iinc 4 1, 3) := dk_132 4 1 (dk_at dksX5_seenFrom_2 3 rfl rfl)
theorem dX5_seenFrom_53 : decode cX5_seenFrom 53 = .ok (.goto (-48), 3) := dk_167 255 208 (dk_at dksX5_seenFrom_2 6 rfl rfl)
theorem dX5_seenFrom_56 : decode cX5_seenFrom 56 = .ok (.iload_n 3, 1) := dk_29 (dk_at dksX5_seenFrom_2 9 rfl rfl)
theorem dX5_seenFrom_57 : decode cX5_seenFrom 57 = .ok (.ireturn, 1) := dk_172 (dk_at dksX5_seenFrom_2 10 rfl rfl)
abbrev cX5_counted : ByteArray := prog_22_method_98_code
def yX5_counted : MethodName := ⟨RX5, "counted", "(II)I"⟩
def dkwX5_counted_4 : List UInt8 := [29, 4, 96, 182, 0, 155, 172]
abbrev dktX5_counted_4 : List UInt8 := dkwX5_counted_4 ++ []
def dkwX5_counted_3 : List UInt8 := [180, 0, 13, 16, 107, 5, 29, 104, 96, 4, 96, 28, 79, 42, 180, 0, 13, 6, 92, 46, 4, 96, 79, 42]
abbrev dktX5_counted_3 : List UInt8 := dkwX5_counted_3 ++ dktX5_counted_4
def dkwX5_counted_2 : List UInt8 := [160, 0, 10, 42, 16, 251, 182, 0, 155, 172, 42, 180, 0, 13, 16, 107, 5, 29, 104, 96, 27, 79, 42]
abbrev dktX5_counted_2 : List UInt8 := dkwX5_counted_2 ++ dktX5_counted_3
def dkwX5_counted_1 : List UInt8 := [184, 0, 162, 154, 0, 9, 42, 2, 182, 0, 155, 172, 42, 180, 0, 13, 6, 46, 62, 29, 16, 8]
abbrev dktX5_counted_1 : List UInt8 := dkwX5_counted_1 ++ dktX5_counted_2
def dkwX5_counted_0 : List UInt8 := [42, 3, 181, 0, 142, 27, 133, 9, 20, 0, 166, 184, 0, 162, 153, 0, 15, 28, 133, 9, 20, 0, 211]
abbrev dktX5_counted_0 : List UInt8 := dkwX5_counted_0 ++ dktX5_counted_1
theorem dksX5_counted_0 : cX5_counted.data.toList.drop 0 = dktX5_counted_0 := by decide +kernel
theorem dksX5_counted_1 : cX5_counted.data.toList.drop 23 = dktX5_counted_1 := dk_seg dksX5_counted_0 23 rfl rfl
theorem dksX5_counted_2 : cX5_counted.data.toList.drop 45 = dktX5_counted_2 := dk_seg dksX5_counted_1 22 rfl rfl
theorem dksX5_counted_3 : cX5_counted.data.toList.drop 68 = dktX5_counted_3 := dk_seg dksX5_counted_2 23 rfl rfl
theorem dksX5_counted_4 : cX5_counted.data.toList.drop 92 = dktX5_counted_4 := dk_seg dksX5_counted_3 24 rfl rfl
theorem dX5_counted_0 : decode cX5_counted 0 = .ok (.aload_n 0, 1) := dk_42 (dk_at dksX5_counted_0 0 rfl rfl)
theorem dX5_counted_1 : decode cX5_counted 1 = .ok (.iconst 0, 1) := dk_3 (dk_at dksX5_counted_0 1 rfl rfl)
theorem dX5_counted_2 : decode cX5_counted 2 = .ok (.putfield 142, 3) := dk_181 0 142 (dk_at dksX5_counted_0 2 rfl rfl)
theorem dX5_counted_5 : decode cX5_counted 5 = .ok (.iload_n 1, 1) := dk_27 (dk_at dksX5_counted_0 5 rfl rfl)
theorem dX5_counted_6 : decode cX5_counted 6 = .ok (.i2l, 1) := dk_133 (dk_at dksX5_counted_0 6 rfl rfl)
theorem dX5_counted_7 : decode cX5_counted 7 = .ok (.lconst 0, 1) := dk_9 (dk_at dksX5_counted_0 7 rfl rfl)
theorem dX5_counted_8 : decode cX5_counted 8 = .ok (.ldc2_w 166, 3) := dk_20 0 166 (dk_at dksX5_counted_0 8 rfl rfl)
theorem dX5_counted_11 : decode cX5_counted 11 = .ok (.invokestatic 162, 3) := dk_184 0 162 (dk_at dksX5_counted_0 11 rfl rfl)
theorem dX5_counted_14 : decode cX5_counted 14 = .ok (.ifCond .eq 15, 3) := dk_153 0 15 (dk_at dksX5_counted_0 14 rfl rfl)
theorem dX5_counted_17 : decode cX5_counted 17 = .ok (.iload_n 2, 1) := dk_28 (dk_at dksX5_counted_0 17 rfl rfl)
theorem dX5_counted_18 : decode cX5_counted 18 = .ok (.i2l, 1) := dk_133 (dk_at dksX5_counted_0 18 rfl rfl)
theorem dX5_counted_19 : decode cX5_counted 19 = .ok (.lconst 0, 1) := dk_9 (dk_at dksX5_counted_0 19 rfl rfl)
theorem dX5_counted_20 : decode cX5_counted 20 = .ok (.ldc2_w 211, 3) := dk_20 0 211 (dk_at dksX5_counted_0 20 rfl rfl)
theorem dX5_counted_23 : decode cX5_counted 23 = .ok (.invokestatic 162, 3) := dk_184 0 162 (dk_at dksX5_counted_1 0 rfl rfl)
theorem dX5_counted_26 : decode cX5_counted 26 = .ok (.ifCond .ne 9, 3) := dk_154 0 9 (dk_at dksX5_counted_1 3 rfl rfl)
theorem dX5_counted_29 : decode cX5_counted 29 = .ok (.aload_n 0, 1) := dk_42 (dk_at dksX5_counted_1 6 rfl rfl)
theorem dX5_counted_30 : decode cX5_counted 30 = .ok (.iconst (-1), 1) := dk_2 (dk_at dksX5_counted_1 7 rfl rfl)
theorem dX5_counted_31 : decode cX5_counted 31 = .ok (.invokevirtual 155, 3) := dk_182 0 155 (dk_at dksX5_counted_1 8 rfl rfl)
theorem dX5_counted_34 : decode cX5_counted 34 = .ok (.ireturn, 1) := dk_172 (dk_at dksX5_counted_1 11 rfl rfl)
theorem dX5_counted_35 : decode cX5_counted 35 = .ok (.aload_n 0, 1) := dk_42 (dk_at dksX5_counted_1 12 rfl rfl)
theorem dX5_counted_36 : decode cX5_counted 36 = .ok (.getfield 13, 3) := dk_180 0 13 (dk_at dksX5_counted_1 13 rfl rfl)
theorem dX5_counted_39 : decode cX5_counted 39 = .ok (.iconst 3, 1) := dk_6 (dk_at dksX5_counted_1 16 rfl rfl)
theorem dX5_counted_40 : decode cX5_counted 40 = .ok (.iaload, 1) := dk_46 (dk_at dksX5_counted_1 17 rfl rfl)
theorem dX5_counted_41 : decode cX5_counted 41 = .ok (.istore_n 3, 1) := dk_62 (dk_at dksX5_counted_1 18 rfl rfl)
theorem dX5_counted_42 : decode cX5_counted 42 = .ok (.iload_n 3, 1) := dk_29 (dk_at dksX5_counted_1 19 rfl rfl)
theorem dX5_counted_43 : decode cX5_counted 43 = .ok (.bipush 8, 2) := dk_16 8 (dk_at dksX5_counted_1 20 rfl rfl)
theorem dX5_counted_45 : decode cX5_counted 45 = .ok (.if_icmp .ne 10, 3) := dk_160 0 10 (dk_at dksX5_counted_2 0 rfl rfl)
theorem dX5_counted_48 : decode cX5_counted 48 = .ok (.aload_n 0, 1) := dk_42 (dk_at dksX5_counted_2 3 rfl rfl)
theorem dX5_counted_49 : decode cX5_counted 49 = .ok (.bipush (-5), 2) := dk_16 251 (dk_at dksX5_counted_2 4 rfl rfl)
theorem dX5_counted_51 : decode cX5_counted 51 = .ok (.invokevirtual 155, 3) := dk_182 0 155 (dk_at dksX5_counted_2 6 rfl rfl)
theorem dX5_counted_54 : decode cX5_counted 54 = .ok (.ireturn, 1) := dk_172 (dk_at dksX5_counted_2 9 rfl rfl)
theorem dX5_counted_55 : decode cX5_counted 55 = .ok (.aload_n 0, 1) := dk_42 (dk_at dksX5_counted_2 10 rfl rfl)
theorem dX5_counted_56 : decode cX5_counted 56 = .ok (.getfield 13, 3) := dk_180 0 13 (dk_at dksX5_counted_2 11 rfl rfl)
theorem dX5_counted_59 : decode cX5_counted 59 = .ok (.bipush 107, 2) := dk_16 107 (dk_at dksX5_counted_2 14 rfl rfl)
theorem dX5_counted_61 : decode cX5_counted 61 = .ok (.iconst 2, 1) := dk_5 (dk_at dksX5_counted_2 16 rfl rfl)
theorem dX5_counted_62 : decode cX5_counted 62 = .ok (.iload_n 3, 1) := dk_29 (dk_at dksX5_counted_2 17 rfl rfl)
theorem dX5_counted_63 : decode cX5_counted 63 = .ok (.imul, 1) := dk_104 (dk_at dksX5_counted_2 18 rfl rfl)
theorem dX5_counted_64 : decode cX5_counted 64 = .ok (.iadd, 1) := dk_96 (dk_at dksX5_counted_2 19 rfl rfl)
theorem dX5_counted_65 : decode cX5_counted 65 = .ok (.iload_n 1, 1) := dk_27 (dk_at dksX5_counted_2 20 rfl rfl)
theorem dX5_counted_66 : decode cX5_counted 66 = .ok (.iastore, 1) := dk_79 (dk_at dksX5_counted_2 21 rfl rfl)
theorem dX5_counted_67 : decode cX5_counted 67 = .ok (.aload_n 0, 1) := dk_42 (dk_at dksX5_counted_2 22 rfl rfl)
theorem dX5_counted_68 : decode cX5_counted 68 = .ok (.getfield 13, 3) := dk_180 0 13 (dk_at dksX5_counted_3 0 rfl rfl)
theorem dX5_counted_71 : decode cX5_counted 71 = .ok (.bipush 107, 2) := dk_16 107 (dk_at dksX5_counted_3 3 rfl rfl)
theorem dX5_counted_73 : decode cX5_counted 73 = .ok (.iconst 2, 1) := dk_5 (dk_at dksX5_counted_3 5 rfl rfl)
theorem dX5_counted_74 : decode cX5_counted 74 = .ok (.iload_n 3, 1) := dk_29 (dk_at dksX5_counted_3 6 rfl rfl)
theorem dX5_counted_75 : decode cX5_counted 75 = .ok (.imul, 1) := dk_104 (dk_at dksX5_counted_3 7 rfl rfl)
theorem dX5_counted_76 : decode cX5_counted 76 = .ok (.iadd, 1) := dk_96 (dk_at dksX5_counted_3 8 rfl rfl)
theorem dX5_counted_77 : decode cX5_counted 77 = .ok (.iconst 1, 1) := dk_4 (dk_at dksX5_counted_3 9 rfl rfl)
theorem dX5_counted_78 : decode cX5_counted 78 = .ok (.iadd, 1) := dk_96 (dk_at dksX5_counted_3 10 rfl rfl)
theorem dX5_counted_79 : decode cX5_counted 79 = .ok (.iload_n 2, 1) := dk_28 (dk_at dksX5_counted_3 11 rfl rfl)
theorem dX5_counted_80 : decode cX5_counted 80 = .ok (.iastore, 1) := dk_79 (dk_at dksX5_counted_3 12 rfl rfl)
theorem dX5_counted_81 : decode cX5_counted 81 = .ok (.aload_n 0, 1) := dk_42 (dk_at dksX5_counted_3 13 rfl rfl)
theorem dX5_counted_82 : decode cX5_counted 82 = .ok (.getfield 13, 3) := dk_180 0 13 (dk_at dksX5_counted_3 14 rfl rfl)
theorem dX5_counted_85 : decode cX5_counted 85 = .ok (.iconst 3, 1) := dk_6 (dk_at dksX5_counted_3 17 rfl rfl)
theorem dX5_counted_86 : decode cX5_counted 86 = .ok (.dup2, 1) := dk_92 (dk_at dksX5_counted_3 18 rfl rfl)
theorem dX5_counted_87 : decode cX5_counted 87 = .ok (.iaload, 1) := dk_46 (dk_at dksX5_counted_3 19 rfl rfl)
theorem dX5_counted_88 : decode cX5_counted 88 = .ok (.iconst 1, 1) := dk_4 (dk_at dksX5_counted_3 20 rfl rfl)
theorem dX5_counted_89 : decode cX5_counted 89 = .ok (.iadd, 1) := dk_96 (dk_at dksX5_counted_3 21 rfl rfl)
theorem dX5_counted_90 : decode cX5_counted 90 = .ok (.iastore, 1) := dk_79 (dk_at dksX5_counted_3 22 rfl rfl)
theorem dX5_counted_91 : decode cX5_counted 91 = .ok (.aload_n 0, 1) := dk_42 (dk_at dksX5_counted_3 23 rfl rfl)
theorem dX5_counted_92 : decode cX5_counted 92 = .ok (.iload_n 3, 1) := dk_29 (dk_at dksX5_counted_4 0 rfl rfl)
theorem dX5_counted_93 : decode cX5_counted 93 = .ok (.iconst 1, 1) := dk_4 (dk_at dksX5_counted_4 1 rfl rfl)
theorem dX5_counted_94 : decode cX5_counted 94 = .ok (.iadd, 1) := dk_96 (dk_at dksX5_counted_4 2 rfl rfl)
theorem dX5_counted_95 : decode cX5_counted 95 = .ok (.invokevirtual 155, 3) := dk_182 0 155 (dk_at dksX5_counted_4 3 rfl rfl)
theorem dX5_counted_98 : decode cX5_counted 98 = .ok (.ireturn, 1) := dk_172 (dk_at dksX5_counted_4 6 rfl rfl)
abbrev cX5_forget : ByteArray := prog_22_method_99_code
def yX5_forget : MethodName := ⟨RX5, "forget", "()I"⟩
def dkwX5_forget_2 : List UInt8 := [172]
abbrev dktX5_forget_2 : List UInt8 := dkwX5_forget_2 ++ []
def dkwX5_forget_1 : List UInt8 := [96, 60, 42, 180, 0, 13, 4, 3, 79, 42, 180, 0, 13, 5, 3, 79, 42, 180, 0, 13, 6, 3, 79, 27]
abbrev dktX5_forget_1 : List UInt8 := dkwX5_forget_1 ++ dktX5_forget_2
def dkwX5_forget_0 : List UInt8 := [42, 3, 181, 0, 142, 42, 180, 0, 13, 4, 46, 42, 180, 0, 13, 5, 46, 96, 42, 180, 0, 13, 6, 46]
abbrev dktX5_forget_0 : List UInt8 := dkwX5_forget_0 ++ dktX5_forget_1
theorem dksX5_forget_0 : cX5_forget.data.toList.drop 0 = dktX5_forget_0 := by decide +kernel
theorem dksX5_forget_1 : cX5_forget.data.toList.drop 24 = dktX5_forget_1 := dk_seg dksX5_forget_0 24 rfl rfl
theorem dksX5_forget_2 : cX5_forget.data.toList.drop 48 = dktX5_forget_2 := dk_seg dksX5_forget_1 24 rfl rfl
theorem dX5_forget_0 : decode cX5_forget 0 = .ok (.aload_n 0, 1) := dk_42 (dk_at dksX5_forget_0 0 rfl rfl)
theorem dX5_forget_1 : decode cX5_forget 1 = .ok (.iconst 0, 1) := dk_3 (dk_at dksX5_forget_0 1 rfl rfl)
theorem dX5_forget_2 : decode cX5_forget 2 = .ok (.putfield 142, 3) := dk_181 0 142 (dk_at dksX5_forget_0 2 rfl rfl)
theorem dX5_forget_5 : decode cX5_forget 5 = .ok (.aload_n 0, 1) := dk_42 (dk_at dksX5_forget_0 5 rfl rfl)
theorem dX5_forget_6 : decode cX5_forget 6 = .ok (.getfield 13, 3) := dk_180 0 13 (dk_at dksX5_forget_0 6 rfl rfl)
theorem dX5_forget_9 : decode cX5_forget 9 = .ok (.iconst 1, 1) := dk_4 (dk_at dksX5_forget_0 9 rfl rfl)
theorem dX5_forget_10 : decode cX5_forget 10 = .ok (.iaload, 1) := dk_46 (dk_at dksX5_forget_0 10 rfl rfl)
theorem dX5_forget_11 : decode cX5_forget 11 = .ok (.aload_n 0, 1) := dk_42 (dk_at dksX5_forget_0 11 rfl rfl)
theorem dX5_forget_12 : decode cX5_forget 12 = .ok (.getfield 13, 3) := dk_180 0 13 (dk_at dksX5_forget_0 12 rfl rfl)
theorem dX5_forget_15 : decode cX5_forget 15 = .ok (.iconst 2, 1) := dk_5 (dk_at dksX5_forget_0 15 rfl rfl)
theorem dX5_forget_16 : decode cX5_forget 16 = .ok (.iaload, 1) := dk_46 (dk_at dksX5_forget_0 16 rfl rfl)
theorem dX5_forget_17 : decode cX5_forget 17 = .ok (.iadd, 1) := dk_96 (dk_at dksX5_forget_0 17 rfl rfl)
theorem dX5_forget_18 : decode cX5_forget 18 = .ok (.aload_n 0, 1) := dk_42 (dk_at dksX5_forget_0 18 rfl rfl)
theorem dX5_forget_19 : decode cX5_forget 19 = .ok (.getfield 13, 3) := dk_180 0 13 (dk_at dksX5_forget_0 19 rfl rfl)
theorem dX5_forget_22 : decode cX5_forget 22 = .ok (.iconst 3, 1) := dk_6 (dk_at dksX5_forget_0 22 rfl rfl)
theorem dX5_forget_23 : decode cX5_forget 23 = .ok (.iaload, 1) := dk_46 (dk_at dksX5_forget_0 23 rfl rfl)
theorem dX5_forget_24 : decode cX5_forget 24 = .ok (.iadd, 1) := dk_96 (dk_at dksX5_forget_1 0 rfl rfl)
theorem dX5_forget_25 : decode cX5_forget 25 = .ok (.istore_n 1, 1) := dk_60 (dk_at dksX5_forget_1 1 rfl rfl)
theorem dX5_forget_26 : decode cX5_forget 26 = .ok (.aload_n 0, 1) := dk_42 (dk_at dksX5_forget_1 2 rfl rfl)
theorem dX5_forget_27 : decode cX5_forget 27 = .ok (.getfield 13, 3) := dk_180 0 13 (dk_at dksX5_forget_1 3 rfl rfl)
theorem dX5_forget_30 : decode cX5_forget 30 = .ok (.iconst 1, 1) := dk_4 (dk_at dksX5_forget_1 6 rfl rfl)
theorem dX5_forget_31 : decode cX5_forget 31 = .ok (.iconst 0, 1) := dk_3 (dk_at dksX5_forget_1 7 rfl rfl)
theorem dX5_forget_32 : decode cX5_forget 32 = .ok (.iastore, 1) := dk_79 (dk_at dksX5_forget_1 8 rfl rfl)
theorem dX5_forget_33 : decode cX5_forget 33 = .ok (.aload_n 0, 1) := dk_42 (dk_at dksX5_forget_1 9 rfl rfl)
theorem dX5_forget_34 : decode cX5_forget 34 = .ok (.getfield 13, 3) := dk_180 0 13 (dk_at dksX5_forget_1 10 rfl rfl)
theorem dX5_forget_37 : decode cX5_forget 37 = .ok (.iconst 2, 1) := dk_5 (dk_at dksX5_forget_1 13 rfl rfl)
theorem dX5_forget_38 : decode cX5_forget 38 = .ok (.iconst 0, 1) := dk_3 (dk_at dksX5_forget_1 14 rfl rfl)
theorem dX5_forget_39 : decode cX5_forget 39 = .ok (.iastore, 1) := dk_79 (dk_at dksX5_forget_1 15 rfl rfl)
theorem dX5_forget_40 : decode cX5_forget 40 = .ok (.aload_n 0, 1) := dk_42 (dk_at dksX5_forget_1 16 rfl rfl)
theorem dX5_forget_41 : decode cX5_forget 41 = .ok (.getfield 13, 3) := dk_180 0 13 (dk_at dksX5_forget_1 17 rfl rfl)
theorem dX5_forget_44 : decode cX5_forget 44 = .ok (.iconst 3, 1) := dk_6 (dk_at dksX5_forget_1 20 rfl rfl)
theorem dX5_forget_45 : decode cX5_forget 45 = .ok (.iconst 0, 1) := dk_3 (dk_at dksX5_forget_1 21 rfl rfl)
theorem dX5_forget_46 : decode cX5_forget 46 = .ok (.iastore, 1) := dk_79 (dk_at dksX5_forget_1 22 rfl rfl)
theorem dX5_forget_47 : decode cX5_forget 47 = .ok (.iload_n 1, 1) := dk_27 (dk_at dksX5_forget_1 23 rfl rfl)
theorem dX5_forget_48 : decode cX5_forget 48 = .ok (.ireturn, 1) := dk_172 (dk_at dksX5_forget_2 0 rfl rfl)
abbrev cX5_fits : ByteArray := prog_22_method_101_code
def yX5_fits : MethodName := ⟨RX5, "fits", "(I)I"⟩
def dkwX5_fits_2 : List UInt8 := [132, 2, 1, 132, 4, 1, 167, 255, 216, 27, 2, 160, 0, 7, 28, 167, 0, 4, 29, 172]
abbrev dktX5_fits_2 : List UInt8 := dkwX5_fits_2 ++ []
def dkwX5_fits_1 : List UInt8 := [162, 0, 33, 42, 21, 4, 182, 1, 223, 153, 0, 18, 28, 27, 160, 0, 8, 21, 4, 167, 0, 4, 29, 62]
abbrev dktX5_fits_1 : List UInt8 := dkwX5_fits_1 ++ dktX5_fits_2
def dkwX5_fits_0 : List UInt8 := [42, 3, 181, 0, 142, 3, 61, 2, 62, 3, 54, 4, 21, 4, 4, 42, 180, 0, 13, 5, 46, 120]
abbrev dktX5_fits_0 : List UInt8 := dkwX5_fits_0 ++ dktX5_fits_1
theorem dksX5_fits_0 : cX5_fits.data.toList.drop 0 = dktX5_fits_0 := by decide +kernel
theorem dksX5_fits_1 : cX5_fits.data.toList.drop 22 = dktX5_fits_1 := dk_seg dksX5_fits_0 22 rfl rfl
theorem dksX5_fits_2 : cX5_fits.data.toList.drop 46 = dktX5_fits_2 := dk_seg dksX5_fits_1 24 rfl rfl
theorem dX5_fits_0 : decode cX5_fits 0 = .ok (.aload_n 0, 1) := dk_42 (dk_at dksX5_fits_0 0 rfl rfl)
theorem dX5_fits_1 : decode cX5_fits 1 = .ok (.iconst 0, 1) := dk_3 (dk_at dksX5_fits_0 1 rfl rfl)
theorem dX5_fits_2 : decode cX5_fits 2 = .ok (.putfield 142, 3) := dk_181 0 142 (dk_at dksX5_fits_0 2 rfl rfl)
theorem dX5_fits_5 : decode cX5_fits 5 = .ok (.iconst 0, 1) := dk_3 (dk_at dksX5_fits_0 5 rfl rfl)
theorem dX5_fits_6 : decode cX5_fits 6 = .ok (.istore_n 2, 1) := dk_61 (dk_at dksX5_fits_0 6 rfl rfl)
theorem dX5_fits_7 : decode cX5_fits 7 = .ok (.iconst (-1), 1) := dk_2 (dk_at dksX5_fits_0 7 rfl rfl)
theorem dX5_fits_8 : decode cX5_fits 8 = .ok (.istore_n 3, 1) := dk_62 (dk_at dksX5_fits_0 8 rfl rfl)
theorem dX5_fits_9 : decode cX5_fits 9 = .ok (.iconst 0, 1) := dk_3 (dk_at dksX5_fits_0 9 rfl rfl)
theorem dX5_fits_10 : decode cX5_fits 10 = .ok (.istore 4, 2) := dk_54 4 (dk_at dksX5_fits_0 10 rfl rfl)
theorem dX5_fits_12 : decode cX5_fits 12 = .ok (.iload 4, 2) := dk_21 4 (dk_at dksX5_fits_0 12 rfl rfl)
theorem dX5_fits_14 : decode cX5_fits 14 = .ok (.iconst 1, 1) := dk_4 (dk_at dksX5_fits_0 14 rfl rfl)
theorem dX5_fits_15 : decode cX5_fits 15 = .ok (.aload_n 0, 1) := dk_42 (dk_at dksX5_fits_0 15 rfl rfl)
theorem dX5_fits_16 : decode cX5_fits 16 = .ok (.getfield 13, 3) := dk_180 0 13 (dk_at dksX5_fits_0 16 rfl rfl)
theorem dX5_fits_19 : decode cX5_fits 19 = .ok (.iconst 2, 1) := dk_5 (dk_at dksX5_fits_0 19 rfl rfl)
theorem dX5_fits_20 : decode cX5_fits 20 = .ok (.iaload, 1) := dk_46 (dk_at dksX5_fits_0 20 rfl rfl)
theorem dX5_fits_21 : decode cX5_fits 21 = .ok (.ishl, 1) := dk_120 (dk_at dksX5_fits_0 21 rfl rfl)
theorem dX5_fits_22 : decode cX5_fits 22 = .ok (.if_icmp .ge 33, 3) := dk_162 0 33 (dk_at dksX5_fits_1 0 rfl rfl)
theorem dX5_fits_25 : decode cX5_fits 25 = .ok (.aload_n 0, 1) := dk_42 (dk_at dksX5_fits_1 3 rfl rfl)
theorem dX5_fits_26 : decode cX5_fits 26 = .ok (.iload 4, 2) := dk_21 4 (dk_at dksX5_fits_1 4 rfl rfl)
theorem dX5_fits_28 : decode cX5_fits 28 = .ok (.invokevirtual 479, 3) := dk_182 1 223 (dk_at dksX5_fits_1 6 rfl rfl)
theorem dX5_fits_31 : decode cX5_fits 31 = .ok (.ifCond .eq 18, 3) := dk_153 0 18 (dk_at dksX5_fits_1 9 rfl rfl)
theorem dX5_fits_34 : decode cX5_fits 34 = .ok (.iload_n 2, 1) := dk_28 (dk_at dksX5_fits_1 12 rfl rfl)
theorem dX5_fits_35 : decode cX5_fits 35 = .ok (.iload_n 1, 1) := dk_27 (dk_at dksX5_fits_1 13 rfl rfl)
theorem dX5_fits_36 : decode cX5_fits 36 = .ok (.if_icmp .ne 8, 3) := dk_160 0 8 (dk_at dksX5_fits_1 14 rfl rfl)
theorem dX5_fits_39 : decode cX5_fits 39 = .ok (.iload 4, 2) := dk_21 4 (dk_at dksX5_fits_1 17 rfl rfl)
theorem dX5_fits_41 : decode cX5_fits 41 = .ok (.goto 4, 3) := dk_167 0 4 (dk_at dksX5_fits_1 19 rfl rfl)
theorem dX5_fits_44 : decode cX5_fits 44 = .ok (.iload_n 3, 1) := dk_29 (dk_at dksX5_fits_1 22 rfl rfl)
theorem dX5_fits_45 : decode cX5_fits 45 = .ok (.istore_n 3, 1) := dk_62 (dk_at dksX5_fits_1 23 rfl rfl)
theorem dX5_fits_46 : decode cX5_fits 46 = .ok (.iinc 2 1, 3) := dk_132 2 1 (dk_at dksX5_fits_2 0 rfl rfl)
theorem dX5_fits_49 : decode cX5_fits 49 = .ok (.iinc 4 1, 3) := dk_132 4 1 (dk_at dksX5_fits_2 3 rfl rfl)
theorem dX5_fits_52 : decode cX5_fits 52 = .ok (.goto (-40), 3) := dk_167 255 216 (dk_at dksX5_fits_2 6 rfl rfl)
theorem dX5_fits_55 : decode cX5_fits 55 = .ok (.iload_n 1, 1) := dk_27 (dk_at dksX5_fits_2 9 rfl rfl)
theorem dX5_fits_56 : decode cX5_fits 56 = .ok (.iconst (-1), 1) := dk_2 (dk_at dksX5_fits_2 10 rfl rfl)
theorem dX5_fits_57 : decode cX5_fits 57 = .ok (.if_icmp .ne 7, 3) := dk_160 0 7 (dk_at dksX5_fits_2 11 rfl rfl)
theorem dX5_fits_60 : decode cX5_fits 60 = .ok (.iload_n 2, 1) := dk_28 (dk_at dksX5_fits_2 14 rfl rfl)
theorem dX5_fits_61 : decode cX5_fits 61 = .ok (.goto 4, 3) := dk_167 0 4 (dk_at dksX5_fits_2 15 rfl rfl)
theorem dX5_fits_64 : decode cX5_fits 64 = .ok (.iload_n 3, 1) := dk_29 (dk_at dksX5_fits_2 18 rfl rfl)
theorem dX5_fits_65 : decode cX5_fits 65 = .ok (.ireturn, 1) := dk_172 (dk_at dksX5_fits_2 19 rfl rfl)
abbrev cX5_isFitting : ByteArray := prog_22_method_100_code
def yX5_isFitting : MethodName := ⟨RX5, "isFitting", "(I)Z"⟩
def dkwX5_isFitting_2 : List UInt8 := [160, 0, 7, 4, 167, 0, 4, 3, 61, 132, 3, 1, 167, 255, 201, 28, 172]
abbrev dktX5_isFitting_2 : List UInt8 := dkwX5_isFitting_2 ++ []
def dkwX5_isFitting_1 : List UInt8 := [16, 107, 5, 29, 104, 96, 46, 27, 182, 1, 220, 42, 180, 0, 13, 16, 107, 5, 29, 104, 96, 4, 96, 46]
abbrev dktX5_isFitting_1 : List UInt8 := dkwX5_isFitting_1 ++ dktX5_isFitting_2
def dkwX5_isFitting_0 : List UInt8 := [4, 61, 3, 62, 29, 42, 180, 0, 13, 6, 46, 162, 0, 51, 28, 153, 0, 47, 42, 42, 180, 0, 13]
abbrev dktX5_isFitting_0 : List UInt8 := dkwX5_isFitting_0 ++ dktX5_isFitting_1
theorem dksX5_isFitting_0 : cX5_isFitting.data.toList.drop 0 = dktX5_isFitting_0 := by decide +kernel
theorem dksX5_isFitting_1 : cX5_isFitting.data.toList.drop 23 = dktX5_isFitting_1 := dk_seg dksX5_isFitting_0 23 rfl rfl
theorem dksX5_isFitting_2 : cX5_isFitting.data.toList.drop 47 = dktX5_isFitting_2 := dk_seg dksX5_isFitting_1 24 rfl rfl
theorem dX5_isFitting_0 : decode cX5_isFitting 0 = .ok (.iconst 1, 1) := dk_4 (dk_at dksX5_isFitting_0 0 rfl rfl)
theorem dX5_isFitting_1 : decode cX5_isFitting 1 = .ok (.istore_n 2, 1) := dk_61 (dk_at dksX5_isFitting_0 1 rfl rfl)
theorem dX5_isFitting_2 : decode cX5_isFitting 2 = .ok (.iconst 0, 1) := dk_3 (dk_at dksX5_isFitting_0 2 rfl rfl)
theorem dX5_isFitting_3 : decode cX5_isFitting 3 = .ok (.istore_n 3, 1) := dk_62 (dk_at dksX5_isFitting_0 3 rfl rfl)
theorem dX5_isFitting_4 : decode cX5_isFitting 4 = .ok (.iload_n 3, 1) := dk_29 (dk_at dksX5_isFitting_0 4 rfl rfl)
theorem dX5_isFitting_5 : decode cX5_isFitting 5 = .ok (.aload_n 0, 1) := dk_42 (dk_at dksX5_isFitting_0 5 rfl rfl)
theorem dX5_isFitting_6 : decode cX5_isFitting 6 = .ok (.getfield 13, 3) := dk_180 0 13 (dk_at dksX5_isFitting_0 6 rfl rfl)
theorem dX5_isFitting_9 : decode cX5_isFitting 9 = .ok (.iconst 3, 1) := dk_6 (dk_at dksX5_isFitting_0 9 rfl rfl)
theorem dX5_isFitting_10 : decode cX5_isFitting 10 = .ok (.iaload, 1) := dk_46 (dk_at dksX5_isFitting_0 10 rfl rfl)
theorem dX5_isFitting_11 : decode cX5_isFitting 11 = .ok (.if_icmp .ge 51, 3) := dk_162 0 51 (dk_at dksX5_isFitting_0 11 rfl rfl)
theorem dX5_isFitting_14 : decode cX5_isFitting 14 = .ok (.iload_n 2, 1) := dk_28 (dk_at dksX5_isFitting_0 14 rfl rfl)
theorem dX5_isFitting_15 : decode cX5_isFitting 15 = .ok (.ifCond .eq 47, 3) := dk_153 0 47 (dk_at dksX5_isFitting_0 15 rfl rfl)
theorem dX5_isFitting_18 : decode cX5_isFitting 18 = .ok (.aload_n 0, 1) := dk_42 (dk_at dksX5_isFitting_0 18 rfl rfl)
theorem dX5_isFitting_19 : decode cX5_isFitting 19 = .ok (.aload_n 0, 1) := dk_42 (dk_at dksX5_isFitting_0 19 rfl rfl)
theorem dX5_isFitting_20 : decode cX5_isFitting 20 = .ok (.getfield 13, 3) := dk_180 0 13 (dk_at dksX5_isFitting_0 20 rfl rfl)
theorem dX5_isFitting_23 : decode cX5_isFitting 23 = .ok (.bipush 107, 2) := dk_16 107 (dk_at dksX5_isFitting_1 0 rfl rfl)
theorem dX5_isFitting_25 : decode cX5_isFitting 25 = .ok (.iconst 2, 1) := dk_5 (dk_at dksX5_isFitting_1 2 rfl rfl)
theorem dX5_isFitting_26 : decode cX5_isFitting 26 = .ok (.iload_n 3, 1) := dk_29 (dk_at dksX5_isFitting_1 3 rfl rfl)
theorem dX5_isFitting_27 : decode cX5_isFitting 27 = .ok (.imul, 1) := dk_104 (dk_at dksX5_isFitting_1 4 rfl rfl)
theorem dX5_isFitting_28 : decode cX5_isFitting 28 = .ok (.iadd, 1) := dk_96 (dk_at dksX5_isFitting_1 5 rfl rfl)
theorem dX5_isFitting_29 : decode cX5_isFitting 29 = .ok (.iaload, 1) := dk_46 (dk_at dksX5_isFitting_1 6 rfl rfl)
theorem dX5_isFitting_30 : decode cX5_isFitting 30 = .ok (.iload_n 1, 1) := dk_27 (dk_at dksX5_isFitting_1 7 rfl rfl)
theorem dX5_isFitting_31 : decode cX5_isFitting 31 = .ok (.invokevirtual 476, 3) := dk_182 1 220 (dk_at dksX5_isFitting_1 8 rfl rfl)
theorem dX5_isFitting_34 : decode cX5_isFitting 34 = .ok (.aload_n 0, 1) := dk_42 (dk_at dksX5_isFitting_1 11 rfl rfl)
theorem dX5_isFitting_35 : decode cX5_isFitting 35 = .ok (.getfield 13, 3) := dk_180 0 13 (dk_at dksX5_isFitting_1 12 rfl rfl)
theorem dX5_isFitting_38 : decode cX5_isFitting 38 = .ok (.bipush 107, 2) := dk_16 107 (dk_at dksX5_isFitting_1 15 rfl rfl)
theorem dX5_isFitting_40 : decode cX5_isFitting 40 = .ok (.iconst 2, 1) := dk_5 (dk_at dksX5_isFitting_1 17 rfl rfl)
theorem dX5_isFitting_41 : decode cX5_isFitting 41 = .ok (.iload_n 3, 1) := dk_29 (dk_at dksX5_isFitting_1 18 rfl rfl)
theorem dX5_isFitting_42 : decode cX5_isFitting 42 = .ok (.imul, 1) := dk_104 (dk_at dksX5_isFitting_1 19 rfl rfl)
theorem dX5_isFitting_43 : decode cX5_isFitting 43 = .ok (.iadd, 1) := dk_96 (dk_at dksX5_isFitting_1 20 rfl rfl)
theorem dX5_isFitting_44 : decode cX5_isFitting 44 = .ok (.iconst 1, 1) := dk_4 (dk_at dksX5_isFitting_1 21 rfl rfl)
theorem dX5_isFitting_45 : decode cX5_isFitting 45 = .ok (.iadd, 1) := dk_96 (dk_at dksX5_isFitting_1 22 rfl rfl)
theorem dX5_isFitting_46 : decode cX5_isFitting 46 = .ok (.iaload, 1) := dk_46 (dk_at dksX5_isFitting_1 23 rfl rfl)
theorem dX5_isFitting_47 : decode cX5_isFitting 47 = .ok (.if_icmp .ne 7, 3) := dk_160 0 7 (dk_at dksX5_isFitting_2 0 rfl rfl)
theorem dX5_isFitting_50 : decode cX5_isFitting 50 = .ok (.iconst 1, 1) := dk_4 (dk_at dksX5_isFitting_2 3 rfl rfl)
theorem dX5_isFitting_51 : decode cX5_isFitting 51 = .ok (.goto 4, 3) := dk_167 0 4 (dk_at dksX5_isFitting_2 4 rfl rfl)
theorem dX5_isFitting_54 : decode cX5_isFitting 54 = .ok (.iconst 0, 1) := dk_3 (dk_at dksX5_isFitting_2 7 rfl rfl)
theorem dX5_isFitting_55 : decode cX5_isFitting 55 = .ok (.istore_n 2, 1) := dk_61 (dk_at dksX5_isFitting_2 8 rfl rfl)
theorem dX5_isFitting_56 : decode cX5_isFitting 56 = .ok (.iinc 3 1, 3) := dk_132 3 1 (dk_at dksX5_isFitting_2 9 rfl rfl)
theorem dX5_isFitting_59 : decode cX5_isFitting 59 = .ok (.goto (-55), 3) := dk_167 255 201 (dk_at dksX5_isFitting_2 12 rfl rfl)
theorem dX5_isFitting_62 : decode cX5_isFitting 62 = .ok (.iload_n 2, 1) := dk_28 (dk_at dksX5_isFitting_2 15 rfl rfl)
theorem dX5_isFitting_63 : decode cX5_isFitting 63 = .ok (.ireturn, 1) := dk_172 (dk_at dksX5_isFitting_2 16 rfl rfl)
abbrev cX5_next : ByteArray := prog_22_method_102_code
def yX5_next : MethodName := ⟨RX5, "next", "(I)I"⟩
def dkwX5_next_9 : List UInt8 := [61, 132, 4, 1, 167, 255, 153, 29, 2, 159, 0, 7, 27, 154, 0, 7, 29, 167, 0, 4, 28, 172]
abbrev dktX5_next_9 : List UInt8 := dkwX5_next_9 ++ []
def dkwX5_next_8 : List UInt8 := [21, 4, 167, 0, 4, 29, 62, 21, 5, 158, 0, 14, 21, 5, 28, 162, 0, 8, 21, 5, 167, 0, 4, 28]
abbrev dktX5_next_8 : List UInt8 := dkwX5_next_8 ++ dktX5_next_9
def dkwX5_next_7 : List UInt8 := [167, 0, 5, 21, 5, 54, 5, 132, 6, 1, 167, 255, 208, 21, 5, 158, 0, 14, 21, 5, 28, 162, 0, 8]
abbrev dktX5_next_7 : List UInt8 := dkwX5_next_7 ++ dktX5_next_8
def dkwX5_next_6 : List UInt8 := [104, 21, 6, 96, 46, 21, 5, 164, 0, 19, 42, 180, 0, 116, 16, 11, 21, 4, 104, 21, 6, 96, 46]
abbrev dktX5_next_6 : List UInt8 := dkwX5_next_6 ++ dktX5_next_7
def dkwX5_next_5 : List UInt8 := [162, 0, 102, 3, 54, 5, 3, 54, 6, 21, 6, 16, 11, 162, 0, 47, 42, 180, 0, 116, 16, 11, 21, 4]
abbrev dktX5_next_5 : List UInt8 := dkwX5_next_5 ++ dktX5_next_6
def dkwX5_next_4 : List UInt8 := [167, 255, 219, 132, 2, 1, 167, 255, 199, 19, 1, 190, 61, 2, 62, 3, 54, 4, 21, 4, 16, 6]
abbrev dktX5_next_4 : List UInt8 := dkwX5_next_4 ++ dktX5_next_5
def dkwX5_next_3 : List UInt8 := [180, 0, 116, 16, 11, 29, 104, 42, 29, 28, 182, 1, 220, 96, 92, 46, 4, 96, 79, 132, 3, 1]
abbrev dktX5_next_3 : List UInt8 := dkwX5_next_3 ++ dktX5_next_4
def dkwX5_next_2 : List UInt8 := [5, 46, 120, 162, 0, 51, 3, 62, 29, 16, 6, 162, 0, 37, 42, 28, 182, 1, 223, 153, 0, 29, 42]
abbrev dktX5_next_2 : List UInt8 := dkwX5_next_2 ++ dktX5_next_3
def dkwX5_next_1 : List UInt8 := [162, 0, 16, 42, 180, 0, 116, 28, 3, 79, 132, 2, 1, 167, 255, 240, 3, 61, 28, 4, 42, 180, 0, 13]
abbrev dktX5_next_1 : List UInt8 := dkwX5_next_1 ++ dktX5_next_2
def dkwX5_next_0 : List UInt8 := [42, 3, 181, 0, 142, 27, 133, 9, 10, 184, 0, 162, 154, 0, 5, 2, 172, 3, 61, 28, 16, 66]
abbrev dktX5_next_0 : List UInt8 := dkwX5_next_0 ++ dktX5_next_1
theorem dksX5_next_0 : cX5_next.data.toList.drop 0 = dktX5_next_0 := by decide +kernel
theorem dksX5_next_1 : cX5_next.data.toList.drop 22 = dktX5_next_1 := dk_seg dksX5_next_0 22 rfl rfl
theorem dksX5_next_2 : cX5_next.data.toList.drop 46 = dktX5_next_2 := dk_seg dksX5_next_1 24 rfl rfl
theorem dksX5_next_3 : cX5_next.data.toList.drop 69 = dktX5_next_3 := dk_seg dksX5_next_2 23 rfl rfl
theorem dksX5_next_4 : cX5_next.data.toList.drop 91 = dktX5_next_4 := dk_seg dksX5_next_3 22 rfl rfl
theorem dksX5_next_5 : cX5_next.data.toList.drop 113 = dktX5_next_5 := dk_seg dksX5_next_4 22 rfl rfl
theorem dksX5_next_6 : cX5_next.data.toList.drop 137 = dktX5_next_6 := dk_seg dksX5_next_5 24 rfl rfl
theorem dksX5_next_7 : cX5_next.data.toList.drop 160 = dktX5_next_7 := dk_seg dksX5_next_6 23 rfl rfl
theorem dksX5_next_8 : cX5_next.data.toList.drop 184 = dktX5_next_8 := dk_seg dksX5_next_7 24 rfl rfl
theorem dksX5_next_9 : cX5_next.data.toList.drop 208 = dktX5_next_9 := dk_seg dksX5_next_8 24 rfl rfl
theorem dX5_next_0 : decode cX5_next 0 = .ok (.aload_n 0, 1) := dk_42 (dk_at dksX5_next_0 0 rfl rfl)
theorem dX5_next_1 : decode cX5_next 1 = .ok (.iconst 0, 1) := dk_3 (dk_at dksX5_next_0 1 rfl rfl)
theorem dX5_next_2 : decode cX5_next 2 = .ok (.putfield 142, 3) := dk_181 0 142 (dk_at dksX5_next_0 2 rfl rfl)
theorem dX5_next_5 : decode cX5_next 5 = .ok (.iload_n 1, 1) := dk_27 (dk_at dksX5_next_0 5 rfl rfl)
theorem dX5_next_6 : decode cX5_next 6 = .ok (.i2l, 1) := dk_133 (dk_at dksX5_next_0 6 rfl rfl)
theorem dX5_next_7 : decode cX5_next 7 = .ok (.lconst 0, 1) := dk_9 (dk_at dksX5_next_0 7 rfl rfl)
theorem dX5_next_8 : decode cX5_next 8 = .ok (.lconst 1, 1) := dk_10 (dk_at dksX5_next_0 8 rfl rfl)
theorem dX5_next_9 : decode cX5_next 9 = .ok (.invokestatic 162, 3) := dk_184 0 162 (dk_at dksX5_next_0 9 rfl rfl)
theorem dX5_next_12 : decode cX5_next 12 = .ok (.ifCond .ne 5, 3) := dk_154 0 5 (dk_at dksX5_next_0 12 rfl rfl)
theorem dX5_next_15 : decode cX5_next 15 = .ok (.iconst (-1), 1) := dk_2 (dk_at dksX5_next_0 15 rfl rfl)
theorem dX5_next_16 : decode cX5_next 16 = .ok (.ireturn, 1) := dk_172 (dk_at dksX5_next_0 16 rfl rfl)
theorem dX5_next_17 : decode cX5_next 17 = .ok (.iconst 0, 1) := dk_3 (dk_at dksX5_next_0 17 rfl rfl)
theorem dX5_next_18 : decode cX5_next 18 = .ok (.istore_n 2, 1) := dk_61 (dk_at dksX5_next_0 18 rfl rfl)
theorem dX5_next_19 : decode cX5_next 19 = .ok (.iload_n 2, 1) := dk_28 (dk_at dksX5_next_0 19 rfl rfl)
theorem dX5_next_20 : decode cX5_next 20 = .ok (.bipush 66, 2) := dk_16 66 (dk_at dksX5_next_0 20 rfl rfl)
theorem dX5_next_22 : decode cX5_next 22 = .ok (.if_icmp .ge 16, 3) := dk_162 0 16 (dk_at dksX5_next_1 0 rfl rfl)
theorem dX5_next_25 : decode cX5_next 25 = .ok (.aload_n 0, 1) := dk_42 (dk_at dksX5_next_1 3 rfl rfl)
theorem dX5_next_26 : decode cX5_next 26 = .ok (.getfield 116, 3) := dk_180 0 116 (dk_at dksX5_next_1 4 rfl rfl)
theorem dX5_next_29 : decode cX5_next 29 = .ok (.iload_n 2, 1) := dk_28 (dk_at dksX5_next_1 7 rfl rfl)
theorem dX5_next_30 : decode cX5_next 30 = .ok (.iconst 0, 1) := dk_3 (dk_at dksX5_next_1 8 rfl rfl)
theorem dX5_next_31 : decode cX5_next 31 = .ok (.iastore, 1) := dk_79 (dk_at dksX5_next_1 9 rfl rfl)
theorem dX5_next_32 : decode cX5_next 32 = .ok (.iinc 2 1, 3) := dk_132 2 1 (dk_at dksX5_next_1 10 rfl rfl)
theorem dX5_next_35 : decode cX5_next 35 = .ok (.goto (-16), 3) := dk_167 255 240 (dk_at dksX5_next_1 13 rfl rfl)
theorem dX5_next_38 : decode cX5_next 38 = .ok (.iconst 0, 1) := dk_3 (dk_at dksX5_next_1 16 rfl rfl)
theorem dX5_next_39 : decode cX5_next 39 = .ok (.istore_n 2, 1) := dk_61 (dk_at dksX5_next_1 17 rfl rfl)
theorem dX5_next_40 : decode cX5_next 40 = .ok (.iload_n 2, 1) := dk_28 (dk_at dksX5_next_1 18 rfl rfl)
theorem dX5_next_41 : decode cX5_next 41 = .ok (.iconst 1, 1) := dk_4 (dk_at dksX5_next_1 19 rfl rfl)
theorem dX5_next_42 : decode cX5_next 42 = .ok (.aload_n 0, 1) := dk_42 (dk_at dksX5_next_1 20 rfl rfl)
theorem dX5_next_43 : decode cX5_next 43 = .ok (.getfield 13, 3) := dk_180 0 13 (dk_at dksX5_next_1 21 rfl rfl)
theorem dX5_next_46 : decode cX5_next 46 = .ok (.iconst 2, 1) := dk_5 (dk_at dksX5_next_2 0 rfl rfl)
theorem dX5_next_47 : decode cX5_next 47 = .ok (.iaload, 1) := dk_46 (dk_at dksX5_next_2 1 rfl rfl)
theorem dX5_next_48 : decode cX5_next 48 = .ok (.ishl, 1) := dk_120 (dk_at dksX5_next_2 2 rfl rfl)
theorem dX5_next_49 : decode cX5_next 49 = .ok (.if_icmp .ge 51, 3) := dk_162 0 51 (dk_at dksX5_next_2 3 rfl rfl)
theorem dX5_next_52 : decode cX5_next 52 = .ok (.iconst 0, 1) := dk_3 (dk_at dksX5_next_2 6 rfl rfl)
theorem dX5_next_53 : decode cX5_next 53 = .ok (.istore_n 3, 1) := dk_62 (dk_at dksX5_next_2 7 rfl rfl)
theorem dX5_next_54 : decode cX5_next 54 = .ok (.iload_n 3, 1) := dk_29 (dk_at dksX5_next_2 8 rfl rfl)
theorem dX5_next_55 : decode cX5_next 55 = .ok (.bipush 6, 2) := dk_16 6 (dk_at dksX5_next_2 9 rfl rfl)
theorem dX5_next_57 : decode cX5_next 57 = .ok (.if_icmp .ge 37, 3) := dk_162 0 37 (dk_at dksX5_next_2 11 rfl rfl)
theorem dX5_next_60 : decode cX5_next 60 = .ok (.aload_n 0, 1) := dk_42 (dk_at dksX5_next_2 14 rfl rfl)
theorem dX5_next_61 : decode cX5_next 61 = .ok (.iload_n 2, 1) := dk_28 (dk_at dksX5_next_2 15 rfl rfl)
theorem dX5_next_62 : decode cX5_next 62 = .ok (.invokevirtual 479, 3) := dk_182 1 223 (dk_at dksX5_next_2 16 rfl rfl)
theorem dX5_next_65 : decode cX5_next 65 = .ok (.ifCond .eq 29, 3) := dk_153 0 29 (dk_at dksX5_next_2 19 rfl rfl)
theorem dX5_next_68 : decode cX5_next 68 = .ok (.aload_n 0, 1) := dk_42 (dk_at dksX5_next_2 22 rfl rfl)
theorem dX5_next_69 : decode cX5_next 69 = .ok (.getfield 116, 3) := dk_180 0 116 (dk_at dksX5_next_3 0 rfl rfl)
theorem dX5_next_72 : decode cX5_next 72 = .ok (.bipush 11, 2) := dk_16 11 (dk_at dksX5_next_3 3 rfl rfl)
theorem dX5_next_74 : decode cX5_next 74 = .ok (.iload_n 3, 1) := dk_29 (dk_at dksX5_next_3 5 rfl rfl)
theorem dX5_next_75 : decode cX5_next 75 = .ok (.imul, 1) := dk_104 (dk_at dksX5_next_3 6 rfl rfl)
theorem dX5_next_76 : decode cX5_next 76 = .ok (.aload_n 0, 1) := dk_42 (dk_at dksX5_next_3 7 rfl rfl)
theorem dX5_next_77 : decode cX5_next 77 = .ok (.iload_n 3, 1) := dk_29 (dk_at dksX5_next_3 8 rfl rfl)
theorem dX5_next_78 : decode cX5_next 78 = .ok (.iload_n 2, 1) := dk_28 (dk_at dksX5_next_3 9 rfl rfl)
theorem dX5_next_79 : decode cX5_next 79 = .ok (.invokevirtual 476, 3) := dk_182 1 220 (dk_at dksX5_next_3 10 rfl rfl)
theorem dX5_next_82 : decode cX5_next 82 = .ok (.iadd, 1) := dk_96 (dk_at dksX5_next_3 13 rfl rfl)
theorem dX5_next_83 : decode cX5_next 83 = .ok (.dup2, 1) := dk_92 (dk_at dksX5_next_3 14 rfl rfl)
theorem dX5_next_84 : decode cX5_next 84 = .ok (.iaload, 1) := dk_46 (dk_at dksX5_next_3 15 rfl rfl)
theorem dX5_next_85 : decode cX5_next 85 = .ok (.iconst 1, 1) := dk_4 (dk_at dksX5_next_3 16 rfl rfl)
theorem dX5_next_86 : decode cX5_next 86 = .ok (.iadd, 1) := dk_96 (dk_at dksX5_next_3 17 rfl rfl)
theorem dX5_next_87 : decode cX5_next 87 = .ok (.iastore, 1) := dk_79 (dk_at dksX5_next_3 18 rfl rfl)
theorem dX5_next_88 : decode cX5_next 88 = .ok (.iinc 3 1, 3) := dk_132 3 1 (dk_at dksX5_next_3 19 rfl rfl)
theorem dX5_next_91 : decode cX5_next 91 = .ok (.goto (-37), 3) := dk_167 255 219 (dk_at dksX5_next_4 0 rfl rfl)
theorem dX5_next_94 : decode cX5_next 94 = .ok (.iinc 2 1, 3) := dk_132 2 1 (dk_at dksX5_next_4 3 rfl rfl)
theorem dX5_next_97 : decode cX5_next 97 = .ok (.goto (-57), 3) := dk_167 255 199 (dk_at dksX5_next_4 6 rfl rfl)
theorem dX5_next_100 : decode cX5_next 100 = .ok (.ldc_w 446, 3) := dk_19 1 190 (dk_at dksX5_next_4 9 rfl rfl)
theorem dX5_next_103 : decode cX5_next 103 = .ok (.istore_n 2, 1) := dk_61 (dk_at dksX5_next_4 12 rfl rfl)
theorem dX5_next_104 : decode cX5_next 104 = .ok (.iconst (-1), 1) := dk_2 (dk_at dksX5_next_4 13 rfl rfl)
theorem dX5_next_105 : decode cX5_next 105 = .ok (.istore_n 3, 1) := dk_62 (dk_at dksX5_next_4 14 rfl rfl)
theorem dX5_next_106 : decode cX5_next 106 = .ok (.iconst 0, 1) := dk_3 (dk_at dksX5_next_4 15 rfl rfl)
theorem dX5_next_107 : decode cX5_next 107 = .ok (.istore 4, 2) := dk_54 4 (dk_at dksX5_next_4 16 rfl rfl)
theorem dX5_next_109 : decode cX5_next 109 = .ok (.iload 4, 2) := dk_21 4 (dk_at dksX5_next_4 18 rfl rfl)
theorem dX5_next_111 : decode cX5_next 111 = .ok (.bipush 6, 2) := dk_16 6 (dk_at dksX5_next_4 20 rfl rfl)
theorem dX5_next_113 : decode cX5_next 113 = .ok (.if_icmp .ge 102, 3) := dk_162 0 102 (dk_at dksX5_next_5 0 rfl rfl)
theorem dX5_next_116 : decode cX5_next 116 = .ok (.iconst 0, 1) := dk_3 (dk_at dksX5_next_5 3 rfl rfl)
theorem dX5_next_117 : decode cX5_next 117 = .ok (.istore 5, 2) := dk_54 5 (dk_at dksX5_next_5 4 rfl rfl)
theorem dX5_next_119 : decode cX5_next 119 = .ok (.iconst 0, 1) := dk_3 (dk_at dksX5_next_5 6 rfl rfl)
theorem dX5_next_120 : decode cX5_next 120 = .ok (.istore 6, 2) := dk_54 6 (dk_at dksX5_next_5 7 rfl rfl)
theorem dX5_next_122 : decode cX5_next 122 = .ok (.iload 6, 2) := dk_21 6 (dk_at dksX5_next_5 9 rfl rfl)
theorem dX5_next_124 : decode cX5_next 124 = .ok (.bipush 11, 2) := dk_16 11 (dk_at dksX5_next_5 11 rfl rfl)
theorem dX5_next_126 : decode cX5_next 126 = .ok (.if_icmp .ge 47, 3) := dk_162 0 47 (dk_at dksX5_next_5 13 rfl rfl)
theorem dX5_next_129 : decode cX5_next 129 = .ok (.aload_n 0, 1) := dk_42 (dk_at dksX5_next_5 16 rfl rfl)
theorem dX5_next_130 : decode cX5_next 130 = .ok (.getfield 116, 3) := dk_180 0 116 (dk_at dksX5_next_5 17 rfl rfl)
theorem dX5_next_133 : decode cX5_next 133 = .ok (.bipush 11, 2) := dk_16 11 (dk_at dksX5_next_5 20 rfl rfl)
theorem dX5_next_135 : decode cX5_next 135 = .ok (.iload 4, 2) := dk_21 4 (dk_at dksX5_next_5 22 rfl rfl)
theorem dX5_next_137 : decode cX5_next 137 = .ok (.imul, 1) := dk_104 (dk_at dksX5_next_6 0 rfl rfl)
theorem dX5_next_138 : decode cX5_next 138 = .ok (.iload 6, 2) := dk_21 6 (dk_at dksX5_next_6 1 rfl rfl)
theorem dX5_next_140 : decode cX5_next 140 = .ok (.iadd, 1) := dk_96 (dk_at dksX5_next_6 3 rfl rfl)
theorem dX5_next_141 : decode cX5_next 141 = .ok (.iaload, 1) := dk_46 (dk_at dksX5_next_6 4 rfl rfl)
theorem dX5_next_142 : decode cX5_next 142 = .ok (.iload 5, 2) := dk_21 5 (dk_at dksX5_next_6 5 rfl rfl)
theorem dX5_next_144 : decode cX5_next 144 = .ok (.if_icmp .le 19, 3) := dk_164 0 19 (dk_at dksX5_next_6 7 rfl rfl)
theorem dX5_next_147 : decode cX5_next 147 = .ok (.aload_n 0, 1) := dk_42 (dk_at dksX5_next_6 10 rfl rfl)
theorem dX5_next_148 : decode cX5_next 148 = .ok (.getfield 116, 3) := dk_180 0 116 (dk_at dksX5_next_6 11 rfl rfl)
theorem dX5_next_151 : decode cX5_next 151 = .ok (.bipush 11, 2) := dk_16 11 (dk_at dksX5_next_6 14 rfl rfl)
theorem dX5_next_153 : decode cX5_next 153 = .ok (.iload 4, 2) := dk_21 4 (dk_at dksX5_next_6 16 rfl rfl)
theorem dX5_next_155 : decode cX5_next 155 = .ok (.imul, 1) := dk_104 (dk_at dksX5_next_6 18 rfl rfl)
theorem dX5_next_156 : decode cX5_next 156 = .ok (.iload 6, 2) := dk_21 6 (dk_at dksX5_next_6 19 rfl rfl)
theorem dX5_next_158 : decode cX5_next 158 = .ok (.iadd, 1) := dk_96 (dk_at dksX5_next_6 21 rfl rfl)
theorem dX5_next_159 : decode cX5_next 159 = .ok (.iaload, 1) := dk_46 (dk_at dksX5_next_6 22 rfl rfl)
theorem dX5_next_160 : decode cX5_next 160 = .ok (.goto 5, 3) := dk_167 0 5 (dk_at dksX5_next_7 0 rfl rfl)
theorem dX5_next_163 : decode cX5_next 163 = .ok (.iload 5, 2) := dk_21 5 (dk_at dksX5_next_7 3 rfl rfl)
theorem dX5_next_165 : decode cX5_next 165 = .ok (.istore 5, 2) := dk_54 5 (dk_at dksX5_next_7 5 rfl rfl)
theorem dX5_next_167 : decode cX5_next 167 = .ok (.iinc 6 1, 3) := dk_132 6 1 (dk_at dksX5_next_7 7 rfl rfl)
theorem dX5_next_170 : decode cX5_next 170 = .ok (.goto (-48), 3) := dk_167 255 208 (dk_at dksX5_next_7 10 rfl rfl)
theorem dX5_next_173 : decode cX5_next 173 = .ok (.iload 5, 2) := dk_21 5 (dk_at dksX5_next_7 13 rfl rfl)
theorem dX5_next_175 : decode cX5_next 175 = .ok (.ifCond .le 14, 3) := dk_158 0 14 (dk_at dksX5_next_7 15 rfl rfl)
theorem dX5_next_178 : decode cX5_next 178 = .ok (.iload 5, 2) := dk_21 5 (dk_at dksX5_next_7 18 rfl rfl)
theorem dX5_next_180 : decode cX5_next 180 = .ok (.iload_n 2, 1) := dk_28 (dk_at dksX5_next_7 20 rfl rfl)
theorem dX5_next_181 : decode cX5_next 181 = .ok (.if_icmp .ge 8, 3) := dk_162 0 8 (dk_at dksX5_next_7 21 rfl rfl)
theorem dX5_next_184 : decode cX5_next 184 = .ok (.iload 4, 2) := dk_21 4 (dk_at dksX5_next_8 0 rfl rfl)
theorem dX5_next_186 : decode cX5_next 186 = .ok (.goto 4, 3) := dk_167 0 4 (dk_at dksX5_next_8 2 rfl rfl)
theorem dX5_next_189 : decode cX5_next 189 = .ok (.iload_n 3, 1) := dk_29 (dk_at dksX5_next_8 5 rfl rfl)
theorem dX5_next_190 : decode cX5_next 190 = .ok (.istore_n 3, 1) := dk_62 (dk_at dksX5_next_8 6 rfl rfl)
theorem dX5_next_191 : decode cX5_next 191 = .ok (.iload 5, 2) := dk_21 5 (dk_at dksX5_next_8 7 rfl rfl)
theorem dX5_next_193 : decode cX5_next 193 = .ok (.ifCond .le 14, 3) := dk_158 0 14 (dk_at dksX5_next_8 9 rfl rfl)
theorem dX5_next_196 : decode cX5_next 196 = .ok (.iload 5, 2) := dk_21 5 (dk_at dksX5_next_8 12 rfl rfl)
theorem dX5_next_198 : decode cX5_next 198 = .ok (.iload_n 2, 1) := dk_28 (dk_at dksX5_next_8 14 rfl rfl)
theorem dX5_next_199 : decode cX5_next 199 = .ok (.if_icmp .ge 8, 3) := dk_162 0 8 (dk_at dksX5_next_8 15 rfl rfl)
theorem dX5_next_202 : decode cX5_next 202 = .ok (.iload 5, 2) := dk_21 5 (dk_at dksX5_next_8 18 rfl rfl)
theorem dX5_next_204 : decode cX5_next 204 = .ok (.goto 4, 3) := dk_167 0 4 (dk_at dksX5_next_8 20 rfl rfl)
theorem dX5_next_207 : decode cX5_next 207 = .ok (.iload_n 2, 1) := dk_28 (dk_at dksX5_next_8 23 rfl rfl)
theorem dX5_next_208 : decode cX5_next 208 = .ok (.istore_n 2, 1) := dk_61 (dk_at dksX5_next_9 0 rfl rfl)
theorem dX5_next_209 : decode cX5_next 209 = .ok (.iinc 4 1, 3) := dk_132 4 1 (dk_at dksX5_next_9 1 rfl rfl)
theorem dX5_next_212 : decode cX5_next 212 = .ok (.goto (-103), 3) := dk_167 255 153 (dk_at dksX5_next_9 4 rfl rfl)
theorem dX5_next_215 : decode cX5_next 215 = .ok (.iload_n 3, 1) := dk_29 (dk_at dksX5_next_9 7 rfl rfl)
theorem dX5_next_216 : decode cX5_next 216 = .ok (.iconst (-1), 1) := dk_2 (dk_at dksX5_next_9 8 rfl rfl)
theorem dX5_next_217 : decode cX5_next 217 = .ok (.if_icmp .eq 7, 3) := dk_159 0 7 (dk_at dksX5_next_9 9 rfl rfl)
theorem dX5_next_220 : decode cX5_next 220 = .ok (.iload_n 1, 1) := dk_27 (dk_at dksX5_next_9 12 rfl rfl)
theorem dX5_next_221 : decode cX5_next 221 = .ok (.ifCond .ne 7, 3) := dk_154 0 7 (dk_at dksX5_next_9 13 rfl rfl)
theorem dX5_next_224 : decode cX5_next 224 = .ok (.iload_n 3, 1) := dk_29 (dk_at dksX5_next_9 16 rfl rfl)
theorem dX5_next_225 : decode cX5_next 225 = .ok (.goto 4, 3) := dk_167 0 4 (dk_at dksX5_next_9 17 rfl rfl)
theorem dX5_next_228 : decode cX5_next 228 = .ok (.iload_n 2, 1) := dk_28 (dk_at dksX5_next_9 20 rfl rfl)
theorem dX5_next_229 : decode cX5_next 229 = .ok (.ireturn, 1) := dk_172 (dk_at dksX5_next_9 21 rfl rfl)
abbrev cX5_orders : ByteArray := prog_22_method_108_code
def yX5_orders : MethodName := ⟨RX5, "orders", "()I"⟩
def dkwX5_orders_9 : List UInt8 := [172]
abbrev dktX5_orders_9 : List UInt8 := dkwX5_orders_9 ++ []
def dkwX5_orders_8 : List UInt8 := [182, 0, 155, 172, 132, 3, 1, 167, 255, 209, 132, 2, 1, 167, 255, 193, 42, 42, 180, 1, 240, 182, 0, 155]
abbrev dktX5_orders_8 : List UInt8 := dkwX5_orders_8 ++ dktX5_orders_9
def dkwX5_orders_7 : List UInt8 := [42, 16, 8, 28, 104, 182, 1, 255, 156, 0, 20, 42, 27, 182, 2, 2, 42, 28, 181, 0, 133, 42, 16, 253]
abbrev dktX5_orders_7 : List UInt8 := dkwX5_orders_7 ++ dktX5_orders_8
def dkwX5_orders_6 : List UInt8 := [180, 1, 94, 162, 0, 61, 3, 62, 29, 42, 180, 0, 130, 16, 8, 28, 104, 16, 7, 96, 46, 162, 0, 37]
abbrev dktX5_orders_6 : List UInt8 := dkwX5_orders_6 ++ dktX5_orders_7
def dkwX5_orders_5 : List UInt8 := [28, 46, 79, 132, 2, 1, 167, 255, 235, 42, 3, 181, 1, 240, 42, 2, 181, 1, 243, 3, 61, 28, 42]
abbrev dktX5_orders_5 : List UInt8 := dkwX5_orders_5 ++ dktX5_orders_6
def dkwX5_orders_4 : List UInt8 := [79, 132, 2, 1, 167, 255, 234, 3, 61, 28, 16, 16, 162, 0, 21, 42, 180, 0, 32, 28, 42, 180, 0, 26]
abbrev dktX5_orders_4 : List UInt8 := dkwX5_orders_4 ++ dktX5_orders_5
def dkwX5_orders_3 : List UInt8 := [180, 0, 148, 60, 3, 61, 28, 17, 1, 144, 162, 0, 21, 42, 180, 0, 29, 28, 42, 180, 0, 23, 28, 46]
abbrev dktX5_orders_3 : List UInt8 := dkwX5_orders_3 ++ dktX5_orders_4
def dkwX5_orders_2 : List UInt8 := [182, 1, 108, 42, 180, 0, 225, 153, 0, 10, 42, 16, 250, 182, 0, 155, 172, 42, 16, 17, 182, 0, 151, 42]
abbrev dktX5_orders_2 : List UInt8 := dkwX5_orders_2 ++ dktX5_orders_3
def dkwX5_orders_1 : List UInt8 := [154, 0, 23, 42, 16, 59, 182, 1, 38, 153, 0, 14, 42, 182, 0, 229, 42, 182, 1, 252, 167, 255, 232, 42]
abbrev dktX5_orders_1 : List UInt8 := dkwX5_orders_1 ++ dktX5_orders_2
def dkwX5_orders_0 : List UInt8 := [42, 3, 181, 0, 142, 42, 2, 181, 0, 133, 42, 4, 182, 1, 102, 42, 182, 1, 252, 42, 180, 0, 225]
abbrev dktX5_orders_0 : List UInt8 := dkwX5_orders_0 ++ dktX5_orders_1
theorem dksX5_orders_0 : cX5_orders.data.toList.drop 0 = dktX5_orders_0 := by decide +kernel
theorem dksX5_orders_1 : cX5_orders.data.toList.drop 23 = dktX5_orders_1 := dk_seg dksX5_orders_0 23 rfl rfl
theorem dksX5_orders_2 : cX5_orders.data.toList.drop 47 = dktX5_orders_2 := dk_seg dksX5_orders_1 24 rfl rfl
theorem dksX5_orders_3 : cX5_orders.data.toList.drop 71 = dktX5_orders_3 := dk_seg dksX5_orders_2 24 rfl rfl
theorem dksX5_orders_4 : cX5_orders.data.toList.drop 95 = dktX5_orders_4 := dk_seg dksX5_orders_3 24 rfl rfl
theorem dksX5_orders_5 : cX5_orders.data.toList.drop 119 = dktX5_orders_5 := dk_seg dksX5_orders_4 24 rfl rfl
theorem dksX5_orders_6 : cX5_orders.data.toList.drop 142 = dktX5_orders_6 := dk_seg dksX5_orders_5 23 rfl rfl
theorem dksX5_orders_7 : cX5_orders.data.toList.drop 166 = dktX5_orders_7 := dk_seg dksX5_orders_6 24 rfl rfl
theorem dksX5_orders_8 : cX5_orders.data.toList.drop 190 = dktX5_orders_8 := dk_seg dksX5_orders_7 24 rfl rfl
theorem dksX5_orders_9 : cX5_orders.data.toList.drop 214 = dktX5_orders_9 := dk_seg dksX5_orders_8 24 rfl rfl
theorem dX5_orders_0 : decode cX5_orders 0 = .ok (.aload_n 0, 1) := dk_42 (dk_at dksX5_orders_0 0 rfl rfl)
theorem dX5_orders_1 : decode cX5_orders 1 = .ok (.iconst 0, 1) := dk_3 (dk_at dksX5_orders_0 1 rfl rfl)
theorem dX5_orders_2 : decode cX5_orders 2 = .ok (.putfield 142, 3) := dk_181 0 142 (dk_at dksX5_orders_0 2 rfl rfl)
theorem dX5_orders_5 : decode cX5_orders 5 = .ok (.aload_n 0, 1) := dk_42 (dk_at dksX5_orders_0 5 rfl rfl)
theorem dX5_orders_6 : decode cX5_orders 6 = .ok (.iconst (-1), 1) := dk_2 (dk_at dksX5_orders_0 6 rfl rfl)
theorem dX5_orders_7 : decode cX5_orders 7 = .ok (.putfield 133, 3) := dk_181 0 133 (dk_at dksX5_orders_0 7 rfl rfl)
theorem dX5_orders_10 : decode cX5_orders 10 = .ok (.aload_n 0, 1) := dk_42 (dk_at dksX5_orders_0 10 rfl rfl)
theorem dX5_orders_11 : decode cX5_orders 11 = .ok (.iconst 1, 1) := dk_4 (dk_at dksX5_orders_0 11 rfl rfl)
theorem dX5_orders_12 : decode cX5_orders 12 = .ok (.invokevirtual 358, 3) := dk_182 1 102 (dk_at dksX5_orders_0 12 rfl rfl)
theorem dX5_orders_15 : decode cX5_orders 15 = .ok (.aload_n 0, 1) := dk_42 (dk_at dksX5_orders_0 15 rfl rfl)
theorem dX5_orders_16 : decode cX5_orders 16 = .ok (.invokevirtual 508, 3) := dk_182 1 252 (dk_at dksX5_orders_0 16 rfl rfl)
theorem dX5_orders_19 : decode cX5_orders 19 = .ok (.aload_n 0, 1) := dk_42 (dk_at dksX5_orders_0 19 rfl rfl)
theorem dX5_orders_20 : decode cX5_orders 20 = .ok (.getfield 225, 3) := dk_180 0 225 (dk_at dksX5_orders_0 20 rfl rfl)
theorem dX5_orders_23 : decode cX5_orders 23 = .ok (.ifCond .ne 23, 3) := dk_154 0 23 (dk_at dksX5_orders_1 0 rfl rfl)
theorem dX5_orders_26 : decode cX5_orders 26 = .ok (.aload_n 0, 1) := dk_42 (dk_at dksX5_orders_1 3 rfl rfl)
theorem dX5_orders_27 : decode cX5_orders 27 = .ok (.bipush 59, 2) := dk_16 59 (dk_at dksX5_orders_1 4 rfl rfl)
theorem dX5_orders_29 : decode cX5_orders 29 = .ok (.invokevirtual 294, 3) := dk_182 1 38 (dk_at dksX5_orders_1 6 rfl rfl)
theorem dX5_orders_32 : decode cX5_orders 32 = .ok (.ifCond .eq 14, 3) := dk_153 0 14 (dk_at dksX5_orders_1 9 rfl rfl)
theorem dX5_orders_35 : decode cX5_orders 35 = .ok (.aload_n 0, 1) := dk_42 (dk_at dksX5_orders_1 12 rfl rfl)
theorem dX5_orders_36 : decode cX5_orders 36 = .ok (.invokevirtual 229, 3) := dk_182 0 229 (dk_at dksX5_orders_1 13 rfl rfl)
theorem dX5_orders_39 : decode cX5_orders 39 = .ok (.aload_n 0, 1) := dk_42 (dk_at dksX5_orders_1 16 rfl rfl)
theorem dX5_orders_40 : decode cX5_orders 40 = .ok (.invokevirtual 508, 3) := dk_182 1 252 (dk_at dksX5_orders_1 17 rfl rfl)
theorem dX5_orders_43 : decode cX5_orders 43 = .ok (.goto (-24), 3) := dk_167 255 232 (dk_at dksX5_orders_1 20 rfl rfl)
theorem dX5_orders_46 : decode cX5_orders 46 = .ok (.aload_n 0, 1) := dk_42 (dk_at dksX5_orders_1 23 rfl rfl)
theorem dX5_orders_47 : decode cX5_orders 47 = .ok (.invokevirtual 364, 3) := dk_182 1 108 (dk_at dksX5_orders_2 0 rfl rfl)
theorem dX5_orders_50 : decode cX5_orders 50 = .ok (.aload_n 0, 1) := dk_42 (dk_at dksX5_orders_2 3 rfl rfl)
theorem dX5_orders_51 : decode cX5_orders 51 = .ok (.getfield 225, 3) := dk_180 0 225 (dk_at dksX5_orders_2 4 rfl rfl)
theorem dX5_orders_54 : decode cX5_orders 54 = .ok (.ifCond .eq 10, 3) := dk_153 0 10 (dk_at dksX5_orders_2 7 rfl rfl)
theorem dX5_orders_57 : decode cX5_orders 57 = .ok (.aload_n 0, 1) := dk_42 (dk_at dksX5_orders_2 10 rfl rfl)
theorem dX5_orders_58 : decode cX5_orders 58 = .ok (.bipush (-6), 2) := dk_16 250 (dk_at dksX5_orders_2 11 rfl rfl)
theorem dX5_orders_60 : decode cX5_orders 60 = .ok (.invokevirtual 155, 3) := dk_182 0 155 (dk_at dksX5_orders_2 13 rfl rfl)
theorem dX5_orders_63 : decode cX5_orders 63 = .ok (.ireturn, 1) := dk_172 (dk_at dksX5_orders_2 16 rfl rfl)
theorem dX5_orders_64 : decode cX5_orders 64 = .ok (.aload_n 0, 1) := dk_42 (dk_at dksX5_orders_2 17 rfl rfl)
theorem dX5_orders_65 : decode cX5_orders 65 = .ok (.bipush 17, 2) := dk_16 17 (dk_at dksX5_orders_2 18 rfl rfl)
theorem dX5_orders_67 : decode cX5_orders 67 = .ok (.invokevirtual 151, 3) := dk_182 0 151 (dk_at dksX5_orders_2 20 rfl rfl)
theorem dX5_orders_70 : decode cX5_orders 70 = .ok (.aload_n 0, 1) := dk_42 (dk_at dksX5_orders_2 23 rfl rfl)
theorem dX5_orders_71 : decode cX5_orders 71 = .ok (.getfield 148, 3) := dk_180 0 148 (dk_at dksX5_orders_3 0 rfl rfl)
theorem dX5_orders_74 : decode cX5_orders 74 = .ok (.istore_n 1, 1) := dk_60 (dk_at dksX5_orders_3 3 rfl rfl)
theorem dX5_orders_75 : decode cX5_orders 75 = .ok (.iconst 0, 1) := dk_3 (dk_at dksX5_orders_3 4 rfl rfl)
theorem dX5_orders_76 : decode cX5_orders 76 = .ok (.istore_n 2, 1) := dk_61 (dk_at dksX5_orders_3 5 rfl rfl)
theorem dX5_orders_77 : decode cX5_orders 77 = .ok (.iload_n 2, 1) := dk_28 (dk_at dksX5_orders_3 6 rfl rfl)
theorem dX5_orders_78 : decode cX5_orders 78 = .ok (.sipush 400, 3) := dk_17 1 144 (dk_at dksX5_orders_3 7 rfl rfl)
theorem dX5_orders_81 : decode cX5_orders 81 = .ok (.if_icmp .ge 21, 3) := dk_162 0 21 (dk_at dksX5_orders_3 10 rfl rfl)
theorem dX5_orders_84 : decode cX5_orders 84 = .ok (.aload_n 0, 1) := dk_42 (dk_at dksX5_orders_3 13 rfl rfl)
theorem dX5_orders_85 : decode cX5_orders 85 = .ok (.getfield 29, 3) := dk_180 0 29 (dk_at dksX5_orders_3 14 rfl rfl)
theorem dX5_orders_88 : decode cX5_orders 88 = .ok (.iload_n 2, 1) := dk_28 (dk_at dksX5_orders_3 17 rfl rfl)
theorem dX5_orders_89 : decode cX5_orders 89 = .ok (.aload_n 0, 1) := dk_42 (dk_at dksX5_orders_3 18 rfl rfl)
theorem dX5_orders_90 : decode cX5_orders 90 = .ok (.getfield 23, 3) := dk_180 0 23 (dk_at dksX5_orders_3 19 rfl rfl)
theorem dX5_orders_93 : decode cX5_orders 93 = .ok (.iload_n 2, 1) := dk_28 (dk_at dksX5_orders_3 22 rfl rfl)
theorem dX5_orders_94 : decode cX5_orders 94 = .ok (.iaload, 1) := dk_46 (dk_at dksX5_orders_3 23 rfl rfl)
theorem dX5_orders_95 : decode cX5_orders 95 = .ok (.iastore, 1) := dk_79 (dk_at dksX5_orders_4 0 rfl rfl)
theorem dX5_orders_96 : decode cX5_orders 96 = .ok (.iinc 2 1, 3) := dk_132 2 1 (dk_at dksX5_orders_4 1 rfl rfl)
theorem dX5_orders_99 : decode cX5_orders 99 = .ok (.goto (-22), 3) := dk_167 255 234 (dk_at dksX5_orders_4 4 rfl rfl)
theorem dX5_orders_102 : decode cX5_orders 102 = .ok (.iconst 0, 1) := dk_3 (dk_at dksX5_orders_4 7 rfl rfl)
theorem dX5_orders_103 : decode cX5_orders 103 = .ok (.istore_n 2, 1) := dk_61 (dk_at dksX5_orders_4 8 rfl rfl)
theorem dX5_orders_104 : decode cX5_orders 104 = .ok (.iload_n 2, 1) := dk_28 (dk_at dksX5_orders_4 9 rfl rfl)
theorem dX5_orders_105 : decode cX5_orders 105 = .ok (.bipush 16, 2) := dk_16 16 (dk_at dksX5_orders_4 10 rfl rfl)
theorem dX5_orders_107 : decode cX5_orders 107 = .ok (.if_icmp .ge 21, 3) := dk_162 0 21 (dk_at dksX5_orders_4 12 rfl rfl)
theorem dX5_orders_110 : decode cX5_orders 110 = .ok (.aload_n 0, 1) := dk_42 (dk_at dksX5_orders_4 15 rfl rfl)
theorem dX5_orders_111 : decode cX5_orders 111 = .ok (.getfield 32, 3) := dk_180 0 32 (dk_at dksX5_orders_4 16 rfl rfl)
theorem dX5_orders_114 : decode cX5_orders 114 = .ok (.iload_n 2, 1) := dk_28 (dk_at dksX5_orders_4 19 rfl rfl)
theorem dX5_orders_115 : decode cX5_orders 115 = .ok (.aload_n 0, 1) := dk_42 (dk_at dksX5_orders_4 20 rfl rfl)
theorem dX5_orders_116 : decode cX5_orders 116 = .ok (.getfield 26, 3) := dk_180 0 26 (dk_at dksX5_orders_4 21 rfl rfl)
theorem dX5_orders_119 : decode cX5_orders 119 = .ok (.iload_n 2, 1) := dk_28 (dk_at dksX5_orders_5 0 rfl rfl)
theorem dX5_orders_120 : decode cX5_orders 120 = .ok (.iaload, 1) := dk_46 (dk_at dksX5_orders_5 1 rfl rfl)
theorem dX5_orders_121 : decode cX5_orders 121 = .ok (.iastore, 1) := dk_79 (dk_at dksX5_orders_5 2 rfl rfl)
theorem dX5_orders_122 : decode cX5_orders 122 = .ok (.iinc 2 1, 3) := dk_132 2 1 (dk_at dksX5_orders_5 3 rfl rfl)
theorem dX5_orders_125 : decode cX5_orders 125 = .ok (.goto (-21), 3) := dk_167 255 235 (dk_at dksX5_orders_5 6 rfl rfl)
theorem dX5_orders_128 : decode cX5_orders 128 = .ok (.aload_n 0, 1) := dk_42 (dk_at dksX5_orders_5 9 rfl rfl)
theorem dX5_orders_129 : decode cX5_orders 129 = .ok (.iconst 0, 1) := dk_3 (dk_at dksX5_orders_5 10 rfl rfl)
theorem dX5_orders_130 : decode cX5_orders 130 = .ok (.putfield 496, 3) := dk_181 1 240 (dk_at dksX5_orders_5 11 rfl rfl)
theorem dX5_orders_133 : decode cX5_orders 133 = .ok (.aload_n 0, 1) := dk_42 (dk_at dksX5_orders_5 14 rfl rfl)
theorem dX5_orders_134 : decode cX5_orders 134 = .ok (.iconst (-1), 1) := dk_2 (dk_at dksX5_orders_5 15 rfl rfl)
theorem dX5_orders_135 : decode cX5_orders 135 = .ok (.putfield 499, 3) := dk_181 1 243 (dk_at dksX5_orders_5 16 rfl rfl)
theorem dX5_orders_138 : decode cX5_orders 138 = .ok (.iconst 0, 1) := dk_3 (dk_at dksX5_orders_5 19 rfl rfl)
theorem dX5_orders_139 : decode cX5_orders 139 = .ok (.istore_n 2, 1) := dk_61 (dk_at dksX5_orders_5 20 rfl rfl)
theorem dX5_orders_140 : decode cX5_orders 140 = .ok (.iload_n 2, 1) := dk_28 (dk_at dksX5_orders_5 21 rfl rfl)
theorem dX5_orders_141 : decode cX5_orders 141 = .ok (.aload_n 0, 1) := dk_42 (dk_at dksX5_orders_5 22 rfl rfl)
theorem dX5_orders_142 : decode cX5_orders 142 = .ok (.getfield 350, 3) := dk_180 1 94 (dk_at dksX5_orders_6 0 rfl rfl)
theorem dX5_orders_145 : decode cX5_orders 145 = .ok (.if_icmp .ge 61, 3) := dk_162 0 61 (dk_at dksX5_orders_6 3 rfl rfl)
theorem dX5_orders_148 : decode cX5_orders 148 = .ok (.iconst 0, 1) := dk_3 (dk_at dksX5_orders_6 6 rfl rfl)
theorem dX5_orders_149 : decode cX5_orders 149 = .ok (.istore_n 3, 1) := dk_62 (dk_at dksX5_orders_6 7 rfl rfl)
theorem dX5_orders_150 : decode cX5_orders 150 = .ok (.iload_n 3, 1) := dk_29 (dk_at dksX5_orders_6 8 rfl rfl)
theorem dX5_orders_151 : decode cX5_orders 151 = .ok (.aload_n 0, 1) := dk_42 (dk_at dksX5_orders_6 9 rfl rfl)
theorem dX5_orders_152 : decode cX5_orders 152 = .ok (.getfield 130, 3) := dk_180 0 130 (dk_at dksX5_orders_6 10 rfl rfl)
theorem dX5_orders_155 : decode cX5_orders 155 = .ok (.bipush 8, 2) := dk_16 8 (dk_at dksX5_orders_6 13 rfl rfl)
theorem dX5_orders_157 : decode cX5_orders 157 = .ok (.iload_n 2, 1) := dk_28 (dk_at dksX5_orders_6 15 rfl rfl)
theorem dX5_orders_158 : decode cX5_orders 158 = .ok (.imul, 1) := dk_104 (dk_at dksX5_orders_6 16 rfl rfl)
theorem dX5_orders_159 : decode cX5_orders 159 = .ok (.bipush 7, 2) := dk_16 7 (dk_at dksX5_orders_6 17 rfl rfl)
theorem dX5_orders_161 : decode cX5_orders 161 = .ok (.iadd, 1) := dk_96 (dk_at dksX5_orders_6 19 rfl rfl)
theorem dX5_orders_162 : decode cX5_orders 162 = .ok (.iaload, 1) := dk_46 (dk_at dksX5_orders_6 20 rfl rfl)
theorem dX5_orders_163 : decode cX5_orders 163 = .ok (.if_icmp .ge 37, 3) := dk_162 0 37 (dk_at dksX5_orders_6 21 rfl rfl)
theorem dX5_orders_166 : decode cX5_orders 166 = .ok (.aload_n 0, 1) := dk_42 (dk_at dksX5_orders_7 0 rfl rfl)
theorem dX5_orders_167 : decode cX5_orders 167 = .ok (.bipush 8, 2) := dk_16 8 (dk_at dksX5_orders_7 1 rfl rfl)
theorem dX5_orders_169 : decode cX5_orders 169 = .ok (.iload_n 2, 1) := dk_28 (dk_at dksX5_orders_7 3 rfl rfl)
theorem dX5_orders_170 : decode cX5_orders 170 = .ok (.imul, 1) := dk_104 (dk_at dksX5_orders_7 4 rfl rfl)
theorem dX5_orders_171 : decode cX5_orders 171 = .ok (.invokevirtual 511, 3) := dk_182 1 255 (dk_at dksX5_orders_7 5 rfl rfl)
theorem dX5_orders_174 : decode cX5_orders 174 = .ok (.ifCond .ge 20, 3) := dk_156 0 20 (dk_at dksX5_orders_7 8 rfl rfl)
theorem dX5_orders_177 : decode cX5_orders 177 = .ok (.aload_n 0, 1) := dk_42 (dk_at dksX5_orders_7 11 rfl rfl)
theorem dX5_orders_178 : decode cX5_orders 178 = .ok (.iload_n 1, 1) := dk_27 (dk_at dksX5_orders_7 12 rfl rfl)
theorem dX5_orders_179 : decode cX5_orders 179 = .ok (.invokevirtual 514, 3) := dk_182 2 2 (dk_at dksX5_orders_7 13 rfl rfl)
theorem dX5_orders_182 : decode cX5_orders 182 = .ok (.aload_n 0, 1) := dk_42 (dk_at dksX5_orders_7 16 rfl rfl)
theorem dX5_orders_183 : decode cX5_orders 183 = .ok (.iload_n 2, 1) := dk_28 (dk_at dksX5_orders_7 17 rfl rfl)
theorem dX5_orders_184 : decode cX5_orders 184 = .ok (.putfield 133, 3) := dk_181 0 133 (dk_at dksX5_orders_7 18 rfl rfl)
theorem dX5_orders_187 : decode cX5_orders 187 = .ok (.aload_n 0, 1) := dk_42 (dk_at dksX5_orders_7 21 rfl rfl)
theorem dX5_orders_188 : decode cX5_orders 188 = .ok (.bipush (-3), 2) := dk_16 253 (dk_at dksX5_orders_7 22 rfl rfl)
theorem dX5_orders_190 : decode cX5_orders 190 = .ok (.invokevirtual 155, 3) := dk_182 0 155 (dk_at dksX5_orders_8 0 rfl rfl)
theorem dX5_orders_193 : decode cX5_orders 193 = .ok (.ireturn, 1) := dk_172 (dk_at dksX5_orders_8 3 rfl rfl)
theorem dX5_orders_194 : decode cX5_orders 194 = .ok (.iinc 3 1, 3) := dk_132 3 1 (dk_at dksX5_orders_8 4 rfl rfl)
theorem dX5_orders_197 : decode cX5_orders 197 = .ok (.goto (-47), 3) := dk_167 255 209 (dk_at dksX5_orders_8 7 rfl rfl)
theorem dX5_orders_200 : decode cX5_orders 200 = .ok (.iinc 2 1, 3) := dk_132 2 1 (dk_at dksX5_orders_8 10 rfl rfl)
theorem dX5_orders_203 : decode cX5_orders 203 = .ok (.goto (-63), 3) := dk_167 255 193 (dk_at dksX5_orders_8 13 rfl rfl)
theorem dX5_orders_206 : decode cX5_orders 206 = .ok (.aload_n 0, 1) := dk_42 (dk_at dksX5_orders_8 16 rfl rfl)
theorem dX5_orders_207 : decode cX5_orders 207 = .ok (.aload_n 0, 1) := dk_42 (dk_at dksX5_orders_8 17 rfl rfl)
theorem dX5_orders_208 : decode cX5_orders 208 = .ok (.getfield 496, 3) := dk_180 1 240 (dk_at dksX5_orders_8 18 rfl rfl)
theorem dX5_orders_211 : decode cX5_orders 211 = .ok (.invokevirtual 155, 3) := dk_182 0 155 (dk_at dksX5_orders_8 21 rfl rfl)
theorem dX5_orders_214 : decode cX5_orders 214 = .ok (.ireturn, 1) := dk_172 (dk_at dksX5_orders_9 0 rfl rfl)
abbrev cX5_readOrder : ByteArray := prog_22_method_104_code
def yX5_readOrder : MethodName := ⟨RX5, "readOrder", "()V"⟩
def dkwX5_readOrder_11 : List UInt8 := [16, 6, 96, 42, 180, 1, 4, 79, 177]
abbrev dktX5_readOrder_11 : List UInt8 := dkwX5_readOrder_11 ++ []
def dkwX5_readOrder_10 : List UInt8 := [20, 1, 100, 182, 1, 25, 153, 0, 12, 42, 182, 0, 229, 42, 4, 182, 1, 97, 42, 180, 0, 130, 28]
abbrev dktX5_readOrder_10 : List UInt8 := dkwX5_readOrder_10 ++ dktX5_readOrder_11
def dkwX5_readOrder_9 : List UInt8 := [182, 1, 58, 79, 42, 180, 0, 130, 28, 8, 96, 42, 180, 1, 4, 79, 42, 180, 0, 225, 154, 0, 22, 42]
abbrev dktX5_readOrder_9 : List UInt8 := dkwX5_readOrder_9 ++ dktX5_readOrder_10
def dkwX5_readOrder_8 : List UInt8 := [182, 1, 25, 153, 0, 24, 42, 182, 0, 229, 42, 180, 0, 130, 28, 16, 7, 96, 42, 10, 20, 1, 17]
abbrev dktX5_readOrder_8 : List UInt8 := dkwX5_readOrder_8 ++ dktX5_readOrder_9
def dkwX5_readOrder_7 : List UInt8 := [182, 1, 226, 42, 180, 0, 130, 28, 16, 7, 96, 4, 79, 42, 180, 0, 225, 154, 0, 34, 42, 20, 1, 235]
abbrev dktX5_readOrder_7 : List UInt8 := dkwX5_readOrder_7 ++ dktX5_readOrder_8
def dkwX5_readOrder_6 : List UInt8 := [27, 5, 160, 0, 9, 20, 1, 231, 167, 0, 6, 20, 1, 233, 182, 1, 25, 182, 1, 0, 42, 28, 6, 96]
abbrev dktX5_readOrder_6 : List UInt8 := dkwX5_readOrder_6 ++ dktX5_readOrder_7
def dkwX5_readOrder_5 : List UInt8 := [96, 182, 1, 226, 42, 180, 0, 225, 154, 0, 36, 42, 42, 27, 5, 162, 0, 9, 20, 1, 229, 167, 0, 17]
abbrev dktX5_readOrder_5 : List UInt8 := dkwX5_readOrder_5 ++ dktX5_readOrder_6
def dkwX5_readOrder_4 : List UInt8 := [180, 0, 130, 28, 29, 96, 3, 79, 132, 3, 1, 167, 255, 238, 42, 180, 0, 130, 28, 27, 79, 42, 28, 4]
abbrev dktX5_readOrder_4 : List UInt8 := dkwX5_readOrder_4 ++ dktX5_readOrder_5
def dkwX5_readOrder_3 : List UInt8 := [180, 1, 94, 104, 61, 42, 89, 180, 1, 94, 4, 96, 181, 1, 94, 3, 62, 29, 16, 8, 162, 0, 18, 42]
abbrev dktX5_readOrder_3 : List UInt8 := dkwX5_readOrder_3 ++ dktX5_readOrder_4
def dkwX5_readOrder_2 : List UInt8 := [162, 0, 7, 4, 167, 0, 4, 3, 182, 1, 0, 42, 180, 0, 225, 153, 0, 4, 177, 16, 8, 42]
abbrev dktX5_readOrder_2 : List UInt8 := dkwX5_readOrder_2 ++ dktX5_readOrder_3
def dkwX5_readOrder_1 : List UInt8 := [167, 0, 4, 27, 60, 132, 2, 1, 167, 255, 229, 42, 27, 2, 159, 0, 16, 42, 180, 1, 94, 16, 12]
abbrev dktX5_readOrder_1 : List UInt8 := dkwX5_readOrder_1 ++ dktX5_readOrder_2
def dkwX5_readOrder_0 : List UInt8 := [2, 60, 3, 61, 28, 7, 162, 0, 28, 42, 42, 180, 0, 127, 28, 47, 182, 1, 25, 153, 0, 7, 28]
abbrev dktX5_readOrder_0 : List UInt8 := dkwX5_readOrder_0 ++ dktX5_readOrder_1
theorem dksX5_readOrder_0 : cX5_readOrder.data.toList.drop 0 = dktX5_readOrder_0 := by decide +kernel
theorem dksX5_readOrder_1 : cX5_readOrder.data.toList.drop 23 = dktX5_readOrder_1 := dk_seg dksX5_readOrder_0 23 rfl rfl
theorem dksX5_readOrder_2 : cX5_readOrder.data.toList.drop 46 = dktX5_readOrder_2 := dk_seg dksX5_readOrder_1 23 rfl rfl
theorem dksX5_readOrder_3 : cX5_readOrder.data.toList.drop 68 = dktX5_readOrder_3 := dk_seg dksX5_readOrder_2 22 rfl rfl
theorem dksX5_readOrder_4 : cX5_readOrder.data.toList.drop 92 = dktX5_readOrder_4 := dk_seg dksX5_readOrder_3 24 rfl rfl
theorem dksX5_readOrder_5 : cX5_readOrder.data.toList.drop 116 = dktX5_readOrder_5 := dk_seg dksX5_readOrder_4 24 rfl rfl
theorem dksX5_readOrder_6 : cX5_readOrder.data.toList.drop 140 = dktX5_readOrder_6 := dk_seg dksX5_readOrder_5 24 rfl rfl
theorem dksX5_readOrder_7 : cX5_readOrder.data.toList.drop 164 = dktX5_readOrder_7 := dk_seg dksX5_readOrder_6 24 rfl rfl
theorem dksX5_readOrder_8 : cX5_readOrder.data.toList.drop 188 = dktX5_readOrder_8 := dk_seg dksX5_readOrder_7 24 rfl rfl
theorem dksX5_readOrder_9 : cX5_readOrder.data.toList.drop 211 = dktX5_readOrder_9 := dk_seg dksX5_readOrder_8 23 rfl rfl
theorem dksX5_readOrder_10 : cX5_readOrder.data.toList.drop 235 = dktX5_readOrder_10 := dk_seg dksX5_readOrder_9 24 rfl rfl
theorem dksX5_readOrder_11 : cX5_readOrder.data.toList.drop 258 = dktX5_readOrder_11 := dk_seg dksX5_readOrder_10 23 rfl rfl
theorem dX5_readOrder_0 : decode cX5_readOrder 0 = .ok (.iconst (-1), 1) := dk_2 (dk_at dksX5_readOrder_0 0 rfl rfl)
theorem dX5_readOrder_1 : decode cX5_readOrder 1 = .ok (.istore_n 1, 1) := dk_60 (dk_at dksX5_readOrder_0 1 rfl rfl)
theorem dX5_readOrder_2 : decode cX5_readOrder 2 = .ok (.iconst 0, 1) := dk_3 (dk_at dksX5_readOrder_0 2 rfl rfl)
theorem dX5_readOrder_3 : decode cX5_readOrder 3 = .ok (.istore_n 2, 1) := dk_61 (dk_at dksX5_readOrder_0 3 rfl rfl)
theorem dX5_readOrder_4 : decode cX5_readOrder 4 = .ok (.iload_n 2, 1) := dk_28 (dk_at dksX5_readOrder_0 4 rfl rfl)
theorem dX5_readOrder_5 : decode cX5_readOrder 5 = .ok (.iconst 4, 1) := dk_7 (dk_at dksX5_readOrder_0 5 rfl rfl)
theorem dX5_readOrder_6 : decode cX5_readOrder 6 = .ok (.if_icmp .ge 28, 3) := dk_162 0 28 (dk_at dksX5_readOrder_0 6 rfl rfl)
theorem dX5_readOrder_9 : decode cX5_readOrder 9 = .ok (.aload_n 0, 1) := dk_42 (dk_at dksX5_readOrder_0 9 rfl rfl)
theorem dX5_readOrder_10 : decode cX5_readOrder 10 = .ok (.aload_n 0, 1) := dk_42 (dk_at dksX5_readOrder_0 10 rfl rfl)
theorem dX5_readOrder_11 : decode cX5_readOrder 11 = .ok (.getfield 127, 3) := dk_180 0 127 (dk_at dksX5_readOrder_0 11 rfl rfl)
theorem dX5_readOrder_14 : decode cX5_readOrder 14 = .ok (.iload_n 2, 1) := dk_28 (dk_at dksX5_readOrder_0 14 rfl rfl)
theorem dX5_readOrder_15 : decode cX5_readOrder 15 = .ok (.laload, 1) := dk_47 (dk_at dksX5_readOrder_0 15 rfl rfl)
theorem dX5_readOrder_16 : decode cX5_readOrder 16 = .ok (.invokevirtual 281, 3) := dk_182 1 25 (dk_at dksX5_readOrder_0 16 rfl rfl)
theorem dX5_readOrder_19 : decode cX5_readOrder 19 = .ok (.ifCond .eq 7, 3) := dk_153 0 7 (dk_at dksX5_readOrder_0 19 rfl rfl)
theorem dX5_readOrder_22 : decode cX5_readOrder 22 = .ok (.iload_n 2, 1) := dk_28 (dk_at dksX5_readOrder_0 22 rfl rfl)
theorem dX5_readOrder_23 : decode cX5_readOrder 23 = .ok (.goto 4, 3) := dk_167 0 4 (dk_at dksX5_readOrder_1 0 rfl rfl)
theorem dX5_readOrder_26 : decode cX5_readOrder 26 = .ok (.iload_n 1, 1) := dk_27 (dk_at dksX5_readOrder_1 3 rfl rfl)
theorem dX5_readOrder_27 : decode cX5_readOrder 27 = .ok (.istore_n 1, 1) := dk_60 (dk_at dksX5_readOrder_1 4 rfl rfl)
theorem dX5_readOrder_28 : decode cX5_readOrder 28 = .ok (.iinc 2 1, 3) := dk_132 2 1 (dk_at dksX5_readOrder_1 5 rfl rfl)
theorem dX5_readOrder_31 : decode cX5_readOrder 31 = .ok (.goto (-27), 3) := dk_167 255 229 (dk_at dksX5_readOrder_1 8 rfl rfl)
theorem dX5_readOrder_34 : decode cX5_readOrder 34 = .ok (.aload_n 0, 1) := dk_42 (dk_at dksX5_readOrder_1 11 rfl rfl)
theorem dX5_readOrder_35 : decode cX5_readOrder 35 = .ok (.iload_n 1, 1) := dk_27 (dk_at dksX5_readOrder_1 12 rfl rfl)
theorem dX5_readOrder_36 : decode cX5_readOrder 36 = .ok (.iconst (-1), 1) := dk_2 (dk_at dksX5_readOrder_1 13 rfl rfl)
theorem dX5_readOrder_37 : decode cX5_readOrder 37 = .ok (.if_icmp .eq 16, 3) := dk_159 0 16 (dk_at dksX5_readOrder_1 14 rfl rfl)
theorem dX5_readOrder_40 : decode cX5_readOrder 40 = .ok (.aload_n 0, 1) := dk_42 (dk_at dksX5_readOrder_1 17 rfl rfl)
theorem dX5_readOrder_41 : decode cX5_readOrder 41 = .ok (.getfield 350, 3) := dk_180 1 94 (dk_at dksX5_readOrder_1 18 rfl rfl)
theorem dX5_readOrder_44 : decode cX5_readOrder 44 = .ok (.bipush 12, 2) := dk_16 12 (dk_at dksX5_readOrder_1 21 rfl rfl)
theorem dX5_readOrder_46 : decode cX5_readOrder 46 = .ok (.if_icmp .ge 7, 3) := dk_162 0 7 (dk_at dksX5_readOrder_2 0 rfl rfl)
theorem dX5_readOrder_49 : decode cX5_readOrder 49 = .ok (.iconst 1, 1) := dk_4 (dk_at dksX5_readOrder_2 3 rfl rfl)
theorem dX5_readOrder_50 : decode cX5_readOrder 50 = .ok (.goto 4, 3) := dk_167 0 4 (dk_at dksX5_readOrder_2 4 rfl rfl)
theorem dX5_readOrder_53 : decode cX5_readOrder 53 = .ok (.iconst 0, 1) := dk_3 (dk_at dksX5_readOrder_2 7 rfl rfl)
theorem dX5_readOrder_54 : decode cX5_readOrder 54 = .ok (.invokevirtual 256, 3) := dk_182 1 0 (dk_at dksX5_readOrder_2 8 rfl rfl)
theorem dX5_readOrder_57 : decode cX5_readOrder 57 = .ok (.aload_n 0, 1) := dk_42 (dk_at dksX5_readOrder_2 11 rfl rfl)
theorem dX5_readOrder_58 : decode cX5_readOrder 58 = .ok (.getfield 225, 3) := dk_180 0 225 (dk_at dksX5_readOrder_2 12 rfl rfl)
theorem dX5_readOrder_61 : decode cX5_readOrder 61 = .ok (.ifCond .eq 4, 3) := dk_153 0 4 (dk_at dksX5_readOrder_2 15 rfl rfl)
theorem dX5_readOrder_64 : decode cX5_readOrder 64 = .ok (.return_, 1) := dk_177 (dk_at dksX5_readOrder_2 18 rfl rfl)
theorem dX5_readOrder_65 : decode cX5_readOrder 65 = .ok (.bipush 8, 2) := dk_16 8 (dk_at dksX5_readOrder_2 19 rfl rfl)
theorem dX5_readOrder_67 : decode cX5_readOrder 67 = .ok (.aload_n 0, 1) := dk_42 (dk_at dksX5_readOrder_2 21 rfl rfl)
theorem dX5_readOrder_68 : decode cX5_readOrder 68 = .ok (.getfield 350, 3) := dk_180 1 94 (dk_at dksX5_readOrder_3 0 rfl rfl)
theorem dX5_readOrder_71 : decode cX5_readOrder 71 = .ok (.imul, 1) := dk_104 (dk_at dksX5_readOrder_3 3 rfl rfl)
theorem dX5_readOrder_72 : decode cX5_readOrder 72 = .ok (.istore_n 2, 1) := dk_61 (dk_at dksX5_readOrder_3 4 rfl rfl)
theorem dX5_readOrder_73 : decode cX5_readOrder 73 = .ok (.aload_n 0, 1) := dk_42 (dk_at dksX5_readOrder_3 5 rfl rfl)
theorem dX5_readOrder_74 : decode cX5_readOrder 74 = .ok (.dup, 1) := dk_89 (dk_at dksX5_readOrder_3 6 rfl rfl)
theorem dX5_readOrder_75 : decode cX5_readOrder 75 = .ok (.getfield 350, 3) := dk_180 1 94 (dk_at dksX5_readOrder_3 7 rfl rfl)
theorem dX5_readOrder_78 : decode cX5_readOrder 78 = .ok (.iconst 1, 1) := dk_4 (dk_at dksX5_readOrder_3 10 rfl rfl)
theorem dX5_readOrder_79 : decode cX5_readOrder 79 = .ok (.iadd, 1) := dk_96 (dk_at dksX5_readOrder_3 11 rfl rfl)
theorem dX5_readOrder_80 : decode cX5_readOrder 80 = .ok (.putfield 350, 3) := dk_181 1 94 (dk_at dksX5_readOrder_3 12 rfl rfl)
theorem dX5_readOrder_83 : decode cX5_readOrder 83 = .ok (.iconst 0, 1) := dk_3 (dk_at dksX5_readOrder_3 15 rfl rfl)
theorem dX5_readOrder_84 : decode cX5_readOrder 84 = .ok (.istore_n 3, 1) := dk_62 (dk_at dksX5_readOrder_3 16 rfl rfl)
theorem dX5_readOrder_85 : decode cX5_readOrder 85 = .ok (.iload_n 3, 1) := dk_29 (dk_at dksX5_readOrder_3 17 rfl rfl)
theorem dX5_readOrder_86 : decode cX5_readOrder 86 = .ok (.bipush 8, 2) := dk_16 8 (dk_at dksX5_readOrder_3 18 rfl rfl)
theorem dX5_readOrder_88 : decode cX5_readOrder 88 = .ok (.if_icmp .ge 18, 3) := dk_162 0 18 (dk_at dksX5_readOrder_3 20 rfl rfl)
theorem dX5_readOrder_91 : decode cX5_readOrder 91 = .ok (.aload_n 0, 1) := dk_42 (dk_at dksX5_readOrder_3 23 rfl rfl)
theorem dX5_readOrder_92 : decode cX5_readOrder 92 = .ok (.getfield 130, 3) := dk_180 0 130 (dk_at dksX5_readOrder_4 0 rfl rfl)
theorem dX5_readOrder_95 : decode cX5_readOrder 95 = .ok (.iload_n 2, 1) := dk_28 (dk_at dksX5_readOrder_4 3 rfl rfl)
theorem dX5_readOrder_96 : decode cX5_readOrder 96 = .ok (.iload_n 3, 1) := dk_29 (dk_at dksX5_readOrder_4 4 rfl rfl)
theorem dX5_readOrder_97 : decode cX5_readOrder 97 = .ok (.iadd, 1) := dk_96 (dk_at dksX5_readOrder_4 5 rfl rfl)
theorem dX5_readOrder_98 : decode cX5_readOrder 98 = .ok (.iconst 0, 1) := dk_3 (dk_at dksX5_readOrder_4 6 rfl rfl)
theorem dX5_readOrder_99 : decode cX5_readOrder 99 = .ok (.iastore, 1) := dk_79 (dk_at dksX5_readOrder_4 7 rfl rfl)
theorem dX5_readOrder_100 : decode cX5_readOrder 100 = .ok (.iinc 3 1, 3) := dk_132 3 1 (dk_at dksX5_readOrder_4 8 rfl rfl)
theorem dX5_readOrder_103 : decode cX5_readOrder 103 = .ok (.goto (-18), 3) := dk_167 255 238 (dk_at dksX5_readOrder_4 11 rfl rfl)
theorem dX5_readOrder_106 : decode cX5_readOrder 106 = .ok (.aload_n 0, 1) := dk_42 (dk_at dksX5_readOrder_4 14 rfl rfl)
theorem dX5_readOrder_107 : decode cX5_readOrder 107 = .ok (.getfield 130, 3) := dk_180 0 130 (dk_at dksX5_readOrder_4 15 rfl rfl)
theorem dX5_readOrder_110 : decode cX5_readOrder 110 = .ok (.iload_n 2, 1) := dk_28 (dk_at dksX5_readOrder_4 18 rfl rfl)
theorem dX5_readOrder_111 : decode cX5_readOrder 111 = .ok (.iload_n 1, 1) := dk_27 (dk_at dksX5_readOrder_4 19 rfl rfl)
theorem dX5_readOrder_112 : decode cX5_readOrder 112 = .ok (.iastore, 1) := dk_79 (dk_at dksX5_readOrder_4 20 rfl rfl)
theorem dX5_readOrder_113 : decode cX5_readOrder 113 = .ok (.aload_n 0, 1) := dk_42 (dk_at dksX5_readOrder_4 21 rfl rfl)
theorem dX5_readOrder_114 : decode cX5_readOrder 114 = .ok (.iload_n 2, 1) := dk_28 (dk_at dksX5_readOrder_4 22 rfl rfl)
theorem dX5_readOrder_115 : decode cX5_readOrder 115 = .ok (.iconst 1, 1) := dk_4 (dk_at dksX5_readOrder_4 23 rfl rfl)
theorem dX5_readOrder_116 : decode cX5_readOrder 116 = .ok (.iadd, 1) := dk_96 (dk_at dksX5_readOrder_5 0 rfl rfl)
theorem dX5_readOrder_117 : decode cX5_readOrder 117 = .ok (.invokevirtual 482, 3) := dk_182 1 226 (dk_at dksX5_readOrder_5 1 rfl rfl)
theorem dX5_readOrder_120 : decode cX5_readOrder 120 = .ok (.aload_n 0, 1) := dk_42 (dk_at dksX5_readOrder_5 4 rfl rfl)
theorem dX5_readOrder_121 : decode cX5_readOrder 121 = .ok (.getfield 225, 3) := dk_180 0 225 (dk_at dksX5_readOrder_5 5 rfl rfl)
theorem dX5_readOrder_124 : decode cX5_readOrder 124 = .ok (.ifCond .ne 36, 3) := dk_154 0 36 (dk_at dksX5_readOrder_5 8 rfl rfl)
theorem dX5_readOrder_127 : decode cX5_readOrder 127 = .ok (.aload_n 0, 1) := dk_42 (dk_at dksX5_readOrder_5 11 rfl rfl)
theorem dX5_readOrder_128 : decode cX5_readOrder 128 = .ok (.aload_n 0, 1) := dk_42 (dk_at dksX5_readOrder_5 12 rfl rfl)
theorem dX5_readOrder_129 : decode cX5_readOrder 129 = .ok (.iload_n 1, 1) := dk_27 (dk_at dksX5_readOrder_5 13 rfl rfl)
theorem dX5_readOrder_130 : decode cX5_readOrder 130 = .ok (.iconst 2, 1) := dk_5 (dk_at dksX5_readOrder_5 14 rfl rfl)
theorem dX5_readOrder_131 : decode cX5_readOrder 131 = .ok (.if_icmp .ge 9, 3) := dk_162 0 9 (dk_at dksX5_readOrder_5 15 rfl rfl)
theorem dX5_readOrder_134 : decode cX5_readOrder 134 = .ok (.ldc2_w 485, 3) := dk_20 1 229 (dk_at dksX5_readOrder_5 18 rfl rfl)
theorem dX5_readOrder_137 : decode cX5_readOrder 137 = .ok (.goto 17, 3) := dk_167 0 17 (dk_at dksX5_readOrder_5 21 rfl rfl)
theorem dX5_readOrder_140 : decode cX5_readOrder 140 = .ok (.iload_n 1, 1) := dk_27 (dk_at dksX5_readOrder_6 0 rfl rfl)
theorem dX5_readOrder_141 : decode cX5_readOrder 141 = .ok (.iconst 2, 1) := dk_5 (dk_at dksX5_readOrder_6 1 rfl rfl)
theorem dX5_readOrder_142 : decode cX5_readOrder 142 = .ok (.if_icmp .ne 9, 3) := dk_160 0 9 (dk_at dksX5_readOrder_6 2 rfl rfl)
theorem dX5_readOrder_145 : decode cX5_readOrder 145 = .ok (.ldc2_w 487, 3) := dk_20 1 231 (dk_at dksX5_readOrder_6 5 rfl rfl)
theorem dX5_readOrder_148 : decode cX5_readOrder 148 = .ok (.goto 6, 3) := dk_167 0 6 (dk_at dksX5_readOrder_6 8 rfl rfl)
theorem dX5_readOrder_151 : decode cX5_readOrder 151 = .ok (.ldc2_w 489, 3) := dk_20 1 233 (dk_at dksX5_readOrder_6 11 rfl rfl)
theorem dX5_readOrder_154 : decode cX5_readOrder 154 = .ok (.invokevirtual 281, 3) := dk_182 1 25 (dk_at dksX5_readOrder_6 14 rfl rfl)
theorem dX5_readOrder_157 : decode cX5_readOrder 157 = .ok (.invokevirtual 256, 3) := dk_182 1 0 (dk_at dksX5_readOrder_6 17 rfl rfl)
theorem dX5_readOrder_160 : decode cX5_readOrder 160 = .ok (.aload_n 0, 1) := dk_42 (dk_at dksX5_readOrder_6 20 rfl rfl)
theorem dX5_readOrder_161 : decode cX5_readOrder 161 = .ok (.iload_n 2, 1) := dk_28 (dk_at dksX5_readOrder_6 21 rfl rfl)
theorem dX5_readOrder_162 : decode cX5_readOrder 162 = .ok (.iconst 3, 1) := dk_6 (dk_at dksX5_readOrder_6 22 rfl rfl)
theorem dX5_readOrder_163 : decode cX5_readOrder 163 = .ok (.iadd, 1) := dk_96 (dk_at dksX5_readOrder_6 23 rfl rfl)
theorem dX5_readOrder_164 : decode cX5_readOrder 164 = .ok (.invokevirtual 482, 3) := dk_182 1 226 (dk_at dksX5_readOrder_7 0 rfl rfl)
theorem dX5_readOrder_167 : decode cX5_readOrder 167 = .ok (.aload_n 0, 1) := dk_42 (dk_at dksX5_readOrder_7 3 rfl rfl)
theorem dX5_readOrder_168 : decode cX5_readOrder 168 = .ok (.getfield 130, 3) := dk_180 0 130 (dk_at dksX5_readOrder_7 4 rfl rfl)
theorem dX5_readOrder_171 : decode cX5_readOrder 171 = .ok (.iload_n 2, 1) := dk_28 (dk_at dksX5_readOrder_7 7 rfl rfl)
theorem dX5_readOrder_172 : decode cX5_readOrder 172 = .ok (.bipush 7, 2) := dk_16 7 (dk_at dksX5_readOrder_7 8 rfl rfl)
theorem dX5_readOrder_174 : decode cX5_readOrder 174 = .ok (.iadd, 1) := dk_96 (dk_at dksX5_readOrder_7 10 rfl rfl)
theorem dX5_readOrder_175 : decode cX5_readOrder 175 = .ok (.iconst 1, 1) := dk_4 (dk_at dksX5_readOrder_7 11 rfl rfl)
theorem dX5_readOrder_176 : decode cX5_readOrder 176 = .ok (.iastore, 1) := dk_79 (dk_at dksX5_readOrder_7 12 rfl rfl)
theorem dX5_readOrder_177 : decode cX5_readOrder 177 = .ok (.aload_n 0, 1) := dk_42 (dk_at dksX5_readOrder_7 13 rfl rfl)
theorem dX5_readOrder_178 : decode cX5_readOrder 178 = .ok (.getfield 225, 3) := dk_180 0 225 (dk_at dksX5_readOrder_7 14 rfl rfl)
theorem dX5_readOrder_181 : decode cX5_readOrder 181 = .ok (.ifCond .ne 34, 3) := dk_154 0 34 (dk_at dksX5_readOrder_7 17 rfl rfl)
theorem dX5_readOrder_184 : decode cX5_readOrder 184 = .ok (.aload_n 0, 1) := dk_42 (dk_at dksX5_readOrder_7 20 rfl rfl)
theorem dX5_readOrder_185 : decode cX5_readOrder 185 = .ok (.ldc2_w 491, 3) := dk_20 1 235 (dk_at dksX5_readOrder_7 21 rfl rfl)
theorem dX5_readOrder_188 : decode cX5_readOrder 188 = .ok (.invokevirtual 281, 3) := dk_182 1 25 (dk_at dksX5_readOrder_8 0 rfl rfl)
theorem dX5_readOrder_191 : decode cX5_readOrder 191 = .ok (.ifCond .eq 24, 3) := dk_153 0 24 (dk_at dksX5_readOrder_8 3 rfl rfl)
theorem dX5_readOrder_194 : decode cX5_readOrder 194 = .ok (.aload_n 0, 1) := dk_42 (dk_at dksX5_readOrder_8 6 rfl rfl)
theorem dX5_readOrder_195 : decode cX5_readOrder 195 = .ok (.invokevirtual 229, 3) := dk_182 0 229 (dk_at dksX5_readOrder_8 7 rfl rfl)
theorem dX5_readOrder_198 : decode cX5_readOrder 198 = .ok (.aload_n 0, 1) := dk_42 (dk_at dksX5_readOrder_8 10 rfl rfl)
theorem dX5_readOrder_199 : decode cX5_readOrder 199 = .ok (.getfield 130, 3) := dk_180 0 130 (dk_at dksX5_readOrder_8 11 rfl rfl)
theorem dX5_readOrder_202 : decode cX5_readOrder 202 = .ok (.iload_n 2, 1) := dk_28 (dk_at dksX5_readOrder_8 14 rfl rfl)
theorem dX5_readOrder_203 : decode cX5_readOrder 203 = .ok (.bipush 7, 2) := dk_16 7 (dk_at dksX5_readOrder_8 15 rfl rfl)
theorem dX5_readOrder_205 : decode cX5_readOrder 205 = .ok (.iadd, 1) := dk_96 (dk_at dksX5_readOrder_8 17 rfl rfl)
theorem dX5_readOrder_206 : decode cX5_readOrder 206 = .ok (.aload_n 0, 1) := dk_42 (dk_at dksX5_readOrder_8 18 rfl rfl)
theorem dX5_readOrder_207 : decode cX5_readOrder 207 = .ok (.lconst 1, 1) := dk_10 (dk_at dksX5_readOrder_8 19 rfl rfl)
theorem dX5_readOrder_208 : decode cX5_readOrder 208 = .ok (.ldc2_w 273, 3) := dk_20 1 17 (dk_at dksX5_readOrder_8 20 rfl rfl)
theorem dX5_readOrder_211 : decode cX5_readOrder 211 = .ok (.invokevirtual 314, 3) := dk_182 1 58 (dk_at dksX5_readOrder_9 0 rfl rfl)
theorem dX5_readOrder_214 : decode cX5_readOrder 214 = .ok (.iastore, 1) := dk_79 (dk_at dksX5_readOrder_9 3 rfl rfl)
theorem dX5_readOrder_215 : decode cX5_readOrder 215 = .ok (.aload_n 0, 1) := dk_42 (dk_at dksX5_readOrder_9 4 rfl rfl)
theorem dX5_readOrder_216 : decode cX5_readOrder 216 = .ok (.getfield 130, 3) := dk_180 0 130 (dk_at dksX5_readOrder_9 5 rfl rfl)
theorem dX5_readOrder_219 : decode cX5_readOrder 219 = .ok (.iload_n 2, 1) := dk_28 (dk_at dksX5_readOrder_9 8 rfl rfl)
theorem dX5_readOrder_220 : decode cX5_readOrder 220 = .ok (.iconst 5, 1) := dk_8 (dk_at dksX5_readOrder_9 9 rfl rfl)
theorem dX5_readOrder_221 : decode cX5_readOrder 221 = .ok (.iadd, 1) := dk_96 (dk_at dksX5_readOrder_9 10 rfl rfl)
theorem dX5_readOrder_222 : decode cX5_readOrder 222 = .ok (.aload_n 0, 1) := dk_42 (dk_at dksX5_readOrder_9 11 rfl rfl)
theorem dX5_readOrder_223 : decode cX5_readOrder 223 = .ok (.getfield 260, 3) := dk_180 1 4 (dk_at dksX5_readOrder_9 12 rfl rfl)
theorem dX5_readOrder_226 : decode cX5_readOrder 226 = .ok (.iastore, 1) := dk_79 (dk_at dksX5_readOrder_9 15 rfl rfl)
theorem dX5_readOrder_227 : decode cX5_readOrder 227 = .ok (.aload_n 0, 1) := dk_42 (dk_at dksX5_readOrder_9 16 rfl rfl)
theorem dX5_readOrder_228 : decode cX5_readOrder 228 = .ok (.getfield 225, 3) := dk_180 0 225 (dk_at dksX5_readOrder_9 17 rfl rfl)
theorem dX5_readOrder_231 : decode cX5_readOrder 231 = .ok (.ifCond .ne 22, 3) := dk_154 0 22 (dk_at dksX5_readOrder_9 20 rfl rfl)
theorem dX5_readOrder_234 : decode cX5_readOrder 234 = .ok (.aload_n 0, 1) := dk_42 (dk_at dksX5_readOrder_9 23 rfl rfl)
theorem dX5_readOrder_235 : decode cX5_readOrder 235 = .ok (.ldc2_w 356, 3) := dk_20 1 100 (dk_at dksX5_readOrder_10 0 rfl rfl)
theorem dX5_readOrder_238 : decode cX5_readOrder 238 = .ok (.invokevirtual 281, 3) := dk_182 1 25 (dk_at dksX5_readOrder_10 3 rfl rfl)
theorem dX5_readOrder_241 : decode cX5_readOrder 241 = .ok (.ifCond .eq 12, 3) := dk_153 0 12 (dk_at dksX5_readOrder_10 6 rfl rfl)
theorem dX5_readOrder_244 : decode cX5_readOrder 244 = .ok (.aload_n 0, 1) := dk_42 (dk_at dksX5_readOrder_10 9 rfl rfl)
theorem dX5_readOrder_245 : decode cX5_readOrder 245 = .ok (.invokevirtual 229, 3) := dk_182 0 229 (dk_at dksX5_readOrder_10 10 rfl rfl)
theorem dX5_readOrder_248 : decode cX5_readOrder 248 = .ok (.aload_n 0, 1) := dk_42 (dk_at dksX5_readOrder_10 13 rfl rfl)
theorem dX5_readOrder_249 : decode cX5_readOrder 249 = .ok (.iconst 1, 1) := dk_4 (dk_at dksX5_readOrder_10 14 rfl rfl)
theorem dX5_readOrder_250 : decode cX5_readOrder 250 = .ok (.invokevirtual 353, 3) := dk_182 1 97 (dk_at dksX5_readOrder_10 15 rfl rfl)
theorem dX5_readOrder_253 : decode cX5_readOrder 253 = .ok (.aload_n 0, 1) := dk_42 (dk_at dksX5_readOrder_10 18 rfl rfl)
theorem dX5_readOrder_254 : decode cX5_readOrder 254 = .ok (.getfield 130, 3) := dk_180 0 130 (dk_at dksX5_readOrder_10 19 rfl rfl)
theorem dX5_readOrder_257 : decode cX5_readOrder 257 = .ok (.iload_n 2, 1) := dk_28 (dk_at dksX5_readOrder_10 22 rfl rfl)
theorem dX5_readOrder_258 : decode cX5_readOrder 258 = .ok (.bipush 6, 2) := dk_16 6 (dk_at dksX5_readOrder_11 0 rfl rfl)
theorem dX5_readOrder_260 : decode cX5_readOrder 260 = .ok (.iadd, 1) := dk_96 (dk_at dksX5_readOrder_11 2 rfl rfl)
theorem dX5_readOrder_261 : decode cX5_readOrder 261 = .ok (.aload_n 0, 1) := dk_42 (dk_at dksX5_readOrder_11 3 rfl rfl)
theorem dX5_readOrder_262 : decode cX5_readOrder 262 = .ok (.getfield 260, 3) := dk_180 1 4 (dk_at dksX5_readOrder_11 4 rfl rfl)
theorem dX5_readOrder_265 : decode cX5_readOrder 265 = .ok (.iastore, 1) := dk_79 (dk_at dksX5_readOrder_11 7 rfl rfl)
theorem dX5_readOrder_266 : decode cX5_readOrder 266 = .ok (.return_, 1) := dk_177 (dk_at dksX5_readOrder_11 8 rfl rfl)
abbrev cX5_readSum : ByteArray := prog_22_method_103_code
def yX5_readSum : MethodName := ⟨RX5, "readSum", "(I)V"⟩
def dkwX5_readSum_1 : List UInt8 := [180, 0, 130, 27, 4, 96, 42, 180, 1, 4, 79, 177]
abbrev dktX5_readSum_1 : List UInt8 := dkwX5_readSum_1 ++ []
def dkwX5_readSum_0 : List UInt8 := [42, 180, 0, 130, 27, 42, 180, 1, 4, 79, 42, 180, 0, 225, 154, 0, 8, 42, 3, 182, 1, 97, 42]
abbrev dktX5_readSum_0 : List UInt8 := dkwX5_readSum_0 ++ dktX5_readSum_1
theorem dksX5_readSum_0 : cX5_readSum.data.toList.drop 0 = dktX5_readSum_0 := by decide +kernel
theorem dksX5_readSum_1 : cX5_readSum.data.toList.drop 23 = dktX5_readSum_1 := dk_seg dksX5_readSum_0 23 rfl rfl
theorem dX5_readSum_0 : decode cX5_readSum 0 = .ok (.aload_n 0, 1) := dk_42 (dk_at dksX5_readSum_0 0 rfl rfl)
theorem dX5_readSum_1 : decode cX5_readSum 1 = .ok (.getfield 130, 3) := dk_180 0 130 (dk_at dksX5_readSum_0 1 rfl rfl)
theorem dX5_readSum_4 : decode cX5_readSum 4 = .ok (.iload_n 1, 1) := dk_27 (dk_at dksX5_readSum_0 4 rfl rfl)
theorem dX5_readSum_5 : decode cX5_readSum 5 = .ok (.aload_n 0, 1) := dk_42 (dk_at dksX5_readSum_0 5 rfl rfl)
theorem dX5_readSum_6 : decode cX5_readSum 6 = .ok (.getfield 260, 3) := dk_180 1 4 (dk_at dksX5_readSum_0 6 rfl rfl)
theorem dX5_readSum_9 : decode cX5_readSum 9 = .ok (.iastore, 1) := dk_79 (dk_at dksX5_readSum_0 9 rfl rfl)
theorem dX5_readSum_10 : decode cX5_readSum 10 = .ok (.aload_n 0, 1) := dk_42 (dk_at dksX5_readSum_0 10 rfl rfl)
theorem dX5_readSum_11 : decode cX5_readSum 11 = .ok (.getfield 225, 3) := dk_180 0 225 (dk_at dksX5_readSum_0 11 rfl rfl)
theorem dX5_readSum_14 : decode cX5_readSum 14 = .ok (.ifCond .ne 8, 3) := dk_154 0 8 (dk_at dksX5_readSum_0 14 rfl rfl)
theorem dX5_readSum_17 : decode cX5_readSum 17 = .ok (.aload_n 0, 1) := dk_42 (dk_at dksX5_readSum_0 17 rfl rfl)
theorem dX5_readSum_18 : decode cX5_readSum 18 = .ok (.iconst 0, 1) := dk_3 (dk_at dksX5_readSum_0 18 rfl rfl)
theorem dX5_readSum_19 : decode cX5_readSum 19 = .ok (.invokevirtual 353, 3) := dk_182 1 97 (dk_at dksX5_readSum_0 19 rfl rfl)
theorem dX5_readSum_22 : decode cX5_readSum 22 = .ok (.aload_n 0, 1) := dk_42 (dk_at dksX5_readSum_0 22 rfl rfl)
theorem dX5_readSum_23 : decode cX5_readSum 23 = .ok (.getfield 130, 3) := dk_180 0 130 (dk_at dksX5_readSum_1 0 rfl rfl)
theorem dX5_readSum_26 : decode cX5_readSum 26 = .ok (.iload_n 1, 1) := dk_27 (dk_at dksX5_readSum_1 3 rfl rfl)
theorem dX5_readSum_27 : decode cX5_readSum 27 = .ok (.iconst 1, 1) := dk_4 (dk_at dksX5_readSum_1 4 rfl rfl)
theorem dX5_readSum_28 : decode cX5_readSum 28 = .ok (.iadd, 1) := dk_96 (dk_at dksX5_readSum_1 5 rfl rfl)
theorem dX5_readSum_29 : decode cX5_readSum 29 = .ok (.aload_n 0, 1) := dk_42 (dk_at dksX5_readSum_1 6 rfl rfl)
theorem dX5_readSum_30 : decode cX5_readSum 30 = .ok (.getfield 260, 3) := dk_180 1 4 (dk_at dksX5_readSum_1 7 rfl rfl)
theorem dX5_readSum_33 : decode cX5_readSum 33 = .ok (.iastore, 1) := dk_79 (dk_at dksX5_readSum_1 10 rfl rfl)
theorem dX5_readSum_34 : decode cX5_readSum 34 = .ok (.return_, 1) := dk_177 (dk_at dksX5_readSum_1 11 rfl rfl)
abbrev cX5_run : ByteArray := prog_22_method_107_code
def yX5_run : MethodName := ⟨RX5, "run", "(I)I"⟩
def dkwX5_run_6 : List UInt8 := [21, 4, 167, 0, 7, 42, 180, 1, 243, 181, 1, 243, 42, 89, 180, 1, 240, 4, 96, 181, 1, 240, 3, 172]
abbrev dktX5_run_6 : List UInt8 := dkwX5_run_6 ++ []
def dkwX5_run_5 : List UInt8 := [182, 1, 249, 54, 4, 21, 4, 156, 0, 6, 16, 253, 172, 42, 42, 180, 0, 130, 27, 46, 5, 160, 0, 8]
abbrev dktX5_run_5 : List UInt8 := dkwX5_run_5 ++ dktX5_run_6
def dkwX5_run_4 : List UInt8 := [182, 1, 246, 62, 42, 180, 1, 237, 153, 0, 6, 16, 253, 172, 42, 42, 180, 0, 130, 27, 46, 28, 29]
abbrev dktX5_run_4 : List UInt8 := dkwX5_run_4 ++ dktX5_run_5
def dkwX5_run_3 : List UInt8 := [180, 1, 237, 154, 0, 7, 28, 154, 0, 5, 3, 172, 42, 27, 4, 96, 182, 1, 246, 61, 42, 27, 6, 96]
abbrev dktX5_run_3 : List UInt8 := dkwX5_run_3 ++ dktX5_run_4
def dkwX5_run_2 : List UInt8 := [46, 42, 180, 0, 130, 27, 16, 6, 96, 46, 162, 0, 24, 42, 27, 8, 96, 182, 1, 246, 61, 42]
abbrev dktX5_run_2 : List UInt8 := dkwX5_run_2 ++ dktX5_run_3
def dkwX5_run_1 : List UInt8 := [80, 42, 180, 0, 104, 6, 42, 180, 1, 243, 133, 80, 42, 3, 181, 1, 237, 42, 180, 0, 130, 27, 8, 96]
abbrev dktX5_run_1 : List UInt8 := dkwX5_run_1 ++ dktX5_run_2
def dkwX5_run_0 : List UInt8 := [42, 180, 0, 104, 4, 42, 180, 0, 13, 16, 6, 46, 133, 80, 42, 180, 0, 104, 5, 42, 180, 1, 240, 133]
abbrev dktX5_run_0 : List UInt8 := dkwX5_run_0 ++ dktX5_run_1
theorem dksX5_run_0 : cX5_run.data.toList.drop 0 = dktX5_run_0 := by decide +kernel
theorem dksX5_run_1 : cX5_run.data.toList.drop 24 = dktX5_run_1 := dk_seg dksX5_run_0 24 rfl rfl
theorem dksX5_run_2 : cX5_run.data.toList.drop 48 = dktX5_run_2 := dk_seg dksX5_run_1 24 rfl rfl
theorem dksX5_run_3 : cX5_run.data.toList.drop 70 = dktX5_run_3 := dk_seg dksX5_run_2 22 rfl rfl
theorem dksX5_run_4 : cX5_run.data.toList.drop 94 = dktX5_run_4 := dk_seg dksX5_run_3 24 rfl rfl
theorem dksX5_run_5 : cX5_run.data.toList.drop 117 = dktX5_run_5 := dk_seg dksX5_run_4 23 rfl rfl
theorem dksX5_run_6 : cX5_run.data.toList.drop 141 = dktX5_run_6 := dk_seg dksX5_run_5 24 rfl rfl
theorem dX5_run_0 : decode cX5_run 0 = .ok (.aload_n 0, 1) := dk_42 (dk_at dksX5_run_0 0 rfl rfl)
theorem dX5_run_1 : decode cX5_run 1 = .ok (.getfield 104, 3) := dk_180 0 104 (dk_at dksX5_run_0 1 rfl rfl)
theorem dX5_run_4 : decode cX5_run 4 = .ok (.iconst 1, 1) := dk_4 (dk_at dksX5_run_0 4 rfl rfl)
theorem dX5_run_5 : decode cX5_run 5 = .ok (.aload_n 0, 1) := dk_42 (dk_at dksX5_run_0 5 rfl rfl)
theorem dX5_run_6 : decode cX5_run 6 = .ok (.getfield 13, 3) := dk_180 0 13 (dk_at dksX5_run_0 6 rfl rfl)
theorem dX5_run_9 : decode cX5_run 9 = .ok (.bipush 6, 2) := dk_16 6 (dk_at dksX5_run_0 9 rfl rfl)
theorem dX5_run_11 : decode cX5_run 11 = .ok (.iaload, 1) := dk_46 (dk_at dksX5_run_0 11 rfl rfl)
theorem dX5_run_12 : decode cX5_run 12 = .ok (.i2l, 1) := dk_133 (dk_at dksX5_run_0 12 rfl rfl)
theorem dX5_run_13 : decode cX5_run 13 = .ok (.lastore, 1) := dk_80 (dk_at dksX5_run_0 13 rfl rfl)
theorem dX5_run_14 : decode cX5_run 14 = .ok (.aload_n 0, 1) := dk_42 (dk_at dksX5_run_0 14 rfl rfl)
theorem dX5_run_15 : decode cX5_run 15 = .ok (.getfield 104, 3) := dk_180 0 104 (dk_at dksX5_run_0 15 rfl rfl)
theorem dX5_run_18 : decode cX5_run 18 = .ok (.iconst 2, 1) := dk_5 (dk_at dksX5_run_0 18 rfl rfl)
theorem dX5_run_19 : decode cX5_run 19 = .ok (.aload_n 0, 1) := dk_42 (dk_at dksX5_run_0 19 rfl rfl)
theorem dX5_run_20 : decode cX5_run 20 = .ok (.getfield 496, 3) := dk_180 1 240 (dk_at dksX5_run_0 20 rfl rfl)
theorem dX5_run_23 : decode cX5_run 23 = .ok (.i2l, 1) := dk_133 (dk_at dksX5_run_0 23 rfl rfl)
theorem dX5_run_24 : decode cX5_run 24 = .ok (.lastore, 1) := dk_80 (dk_at dksX5_run_1 0 rfl rfl)
theorem dX5_run_25 : decode cX5_run 25 = .ok (.aload_n 0, 1) := dk_42 (dk_at dksX5_run_1 1 rfl rfl)
theorem dX5_run_26 : decode cX5_run 26 = .ok (.getfield 104, 3) := dk_180 0 104 (dk_at dksX5_run_1 2 rfl rfl)
theorem dX5_run_29 : decode cX5_run 29 = .ok (.iconst 3, 1) := dk_6 (dk_at dksX5_run_1 5 rfl rfl)
theorem dX5_run_30 : decode cX5_run 30 = .ok (.aload_n 0, 1) := dk_42 (dk_at dksX5_run_1 6 rfl rfl)
theorem dX5_run_31 : decode cX5_run 31 = .ok (.getfield 499, 3) := dk_180 1 243 (dk_at dksX5_run_1 7 rfl rfl)
theorem dX5_run_34 : decode cX5_run 34 = .ok (.i2l, 1) := dk_133 (dk_at dksX5_run_1 10 rfl rfl)
theorem dX5_run_35 : decode cX5_run 35 = .ok (.lastore, 1) := dk_80 (dk_at dksX5_run_1 11 rfl rfl)
theorem dX5_run_36 : decode cX5_run 36 = .ok (.aload_n 0, 1) := dk_42 (dk_at dksX5_run_1 12 rfl rfl)
theorem dX5_run_37 : decode cX5_run 37 = .ok (.iconst 0, 1) := dk_3 (dk_at dksX5_run_1 13 rfl rfl)
theorem dX5_run_38 : decode cX5_run 38 = .ok (.putfield 493, 3) := dk_181 1 237 (dk_at dksX5_run_1 14 rfl rfl)
theorem dX5_run_41 : decode cX5_run 41 = .ok (.aload_n 0, 1) := dk_42 (dk_at dksX5_run_1 17 rfl rfl)
theorem dX5_run_42 : decode cX5_run 42 = .ok (.getfield 130, 3) := dk_180 0 130 (dk_at dksX5_run_1 18 rfl rfl)
theorem dX5_run_45 : decode cX5_run 45 = .ok (.iload_n 1, 1) := dk_27 (dk_at dksX5_run_1 21 rfl rfl)
theorem dX5_run_46 : decode cX5_run 46 = .ok (.iconst 5, 1) := dk_8 (dk_at dksX5_run_1 22 rfl rfl)
theorem dX5_run_47 : decode cX5_run 47 = .ok (.iadd, 1) := dk_96 (dk_at dksX5_run_1 23 rfl rfl)
theorem dX5_run_48 : decode cX5_run 48 = .ok (.iaload, 1) := dk_46 (dk_at dksX5_run_2 0 rfl rfl)
theorem dX5_run_49 : decode cX5_run 49 = .ok (.aload_n 0, 1) := dk_42 (dk_at dksX5_run_2 1 rfl rfl)
theorem dX5_run_50 : decode cX5_run 50 = .ok (.getfield 130, 3) := dk_180 0 130 (dk_at dksX5_run_2 2 rfl rfl)
theorem dX5_run_53 : decode cX5_run 53 = .ok (.iload_n 1, 1) := dk_27 (dk_at dksX5_run_2 5 rfl rfl)
theorem dX5_run_54 : decode cX5_run 54 = .ok (.bipush 6, 2) := dk_16 6 (dk_at dksX5_run_2 6 rfl rfl)
theorem dX5_run_56 : decode cX5_run 56 = .ok (.iadd, 1) := dk_96 (dk_at dksX5_run_2 8 rfl rfl)
theorem dX5_run_57 : decode cX5_run 57 = .ok (.iaload, 1) := dk_46 (dk_at dksX5_run_2 9 rfl rfl)
theorem dX5_run_58 : decode cX5_run 58 = .ok (.if_icmp .ge 24, 3) := dk_162 0 24 (dk_at dksX5_run_2 10 rfl rfl)
theorem dX5_run_61 : decode cX5_run 61 = .ok (.aload_n 0, 1) := dk_42 (dk_at dksX5_run_2 13 rfl rfl)
theorem dX5_run_62 : decode cX5_run 62 = .ok (.iload_n 1, 1) := dk_27 (dk_at dksX5_run_2 14 rfl rfl)
theorem dX5_run_63 : decode cX5_run 63 = .ok (.iconst 5, 1) := dk_8 (dk_at dksX5_run_2 15 rfl rfl)
theorem dX5_run_64 : decode cX5_run 64 = .ok (.iadd, 1) := dk_96 (dk_at dksX5_run_2 16 rfl rfl)
theorem dX5_run_65 : decode cX5_run 65 = .ok (.invokevirtual 502, 3) := dk_182 1 246 (dk_at dksX5_run_2 17 rfl rfl)
theorem dX5_run_68 : decode cX5_run 68 = .ok (.istore_n 2, 1) := dk_61 (dk_at dksX5_run_2 20 rfl rfl)
theorem dX5_run_69 : decode cX5_run 69 = .ok (.aload_n 0, 1) := dk_42 (dk_at dksX5_run_2 21 rfl rfl)
theorem dX5_run_70 : decode cX5_run 70 = .ok (.getfield 493, 3) := dk_180 1 237 (dk_at dksX5_run_3 0 rfl rfl)
theorem dX5_run_73 : decode cX5_run 73 = .ok (.ifCond .ne 7, 3) := dk_154 0 7 (dk_at dksX5_run_3 3 rfl rfl)
theorem dX5_run_76 : decode cX5_run 76 = .ok (.iload_n 2, 1) := dk_28 (dk_at dksX5_run_3 6 rfl rfl)
theorem dX5_run_77 : decode cX5_run 77 = .ok (.ifCond .ne 5, 3) := dk_154 0 5 (dk_at dksX5_run_3 7 rfl rfl)
theorem dX5_run_80 : decode cX5_run 80 = .ok (.iconst 0, 1) := dk_3 (dk_at dksX5_run_3 10 rfl rfl)
theorem dX5_run_81 : decode cX5_run 81 = .ok (.ireturn, 1) := dk_172 (dk_at dksX5_run_3 11 rfl rfl)
theorem dX5_run_82 : decode cX5_run 82 = .ok (.aload_n 0, 1) := dk_42 (dk_at dksX5_run_3 12 rfl rfl)
theorem dX5_run_83 : decode cX5_run 83 = .ok (.iload_n 1, 1) := dk_27 (dk_at dksX5_run_3 13 rfl rfl)
theorem dX5_run_84 : decode cX5_run 84 = .ok (.iconst 1, 1) := dk_4 (dk_at dksX5_run_3 14 rfl rfl)
theorem dX5_run_85 : decode cX5_run 85 = .ok (.iadd, 1) := dk_96 (dk_at dksX5_run_3 15 rfl rfl)
theorem dX5_run_86 : decode cX5_run 86 = .ok (.invokevirtual 502, 3) := dk_182 1 246 (dk_at dksX5_run_3 16 rfl rfl)
theorem dX5_run_89 : decode cX5_run 89 = .ok (.istore_n 2, 1) := dk_61 (dk_at dksX5_run_3 19 rfl rfl)
theorem dX5_run_90 : decode cX5_run 90 = .ok (.aload_n 0, 1) := dk_42 (dk_at dksX5_run_3 20 rfl rfl)
theorem dX5_run_91 : decode cX5_run 91 = .ok (.iload_n 1, 1) := dk_27 (dk_at dksX5_run_3 21 rfl rfl)
theorem dX5_run_92 : decode cX5_run 92 = .ok (.iconst 3, 1) := dk_6 (dk_at dksX5_run_3 22 rfl rfl)
theorem dX5_run_93 : decode cX5_run 93 = .ok (.iadd, 1) := dk_96 (dk_at dksX5_run_3 23 rfl rfl)
theorem dX5_run_94 : decode cX5_run 94 = .ok (.invokevirtual 502, 3) := dk_182 1 246 (dk_at dksX5_run_4 0 rfl rfl)
theorem dX5_run_97 : decode cX5_run 97 = .ok (.istore_n 3, 1) := dk_62 (dk_at dksX5_run_4 3 rfl rfl)
theorem dX5_run_98 : decode cX5_run 98 = .ok (.aload_n 0, 1) := dk_42 (dk_at dksX5_run_4 4 rfl rfl)
theorem dX5_run_99 : decode cX5_run 99 = .ok (.getfield 493, 3) := dk_180 1 237 (dk_at dksX5_run_4 5 rfl rfl)
theorem dX5_run_102 : decode cX5_run 102 = .ok (.ifCond .eq 6, 3) := dk_153 0 6 (dk_at dksX5_run_4 8 rfl rfl)
theorem dX5_run_105 : decode cX5_run 105 = .ok (.bipush (-3), 2) := dk_16 253 (dk_at dksX5_run_4 11 rfl rfl)
theorem dX5_run_107 : decode cX5_run 107 = .ok (.ireturn, 1) := dk_172 (dk_at dksX5_run_4 13 rfl rfl)
theorem dX5_run_108 : decode cX5_run 108 = .ok (.aload_n 0, 1) := dk_42 (dk_at dksX5_run_4 14 rfl rfl)
theorem dX5_run_109 : decode cX5_run 109 = .ok (.aload_n 0, 1) := dk_42 (dk_at dksX5_run_4 15 rfl rfl)
theorem dX5_run_110 : decode cX5_run 110 = .ok (.getfield 130, 3) := dk_180 0 130 (dk_at dksX5_run_4 16 rfl rfl)
theorem dX5_run_113 : decode cX5_run 113 = .ok (.iload_n 1, 1) := dk_27 (dk_at dksX5_run_4 19 rfl rfl)
theorem dX5_run_114 : decode cX5_run 114 = .ok (.iaload, 1) := dk_46 (dk_at dksX5_run_4 20 rfl rfl)
theorem dX5_run_115 : decode cX5_run 115 = .ok (.iload_n 2, 1) := dk_28 (dk_at dksX5_run_4 21 rfl rfl)
theorem dX5_run_116 : decode cX5_run 116 = .ok (.iload_n 3, 1) := dk_29 (dk_at dksX5_run_4 22 rfl rfl)
theorem dX5_run_117 : decode cX5_run 117 = .ok (.invokevirtual 505, 3) := dk_182 1 249 (dk_at dksX5_run_5 0 rfl rfl)
theorem dX5_run_120 : decode cX5_run 120 = .ok (.istore 4, 2) := dk_54 4 (dk_at dksX5_run_5 3 rfl rfl)
theorem dX5_run_122 : decode cX5_run 122 = .ok (.iload 4, 2) := dk_21 4 (dk_at dksX5_run_5 5 rfl rfl)
theorem dX5_run_124 : decode cX5_run 124 = .ok (.ifCond .ge 6, 3) := dk_156 0 6 (dk_at dksX5_run_5 7 rfl rfl)
theorem dX5_run_127 : decode cX5_run 127 = .ok (.bipush (-3), 2) := dk_16 253 (dk_at dksX5_run_5 10 rfl rfl)
theorem dX5_run_129 : decode cX5_run 129 = .ok (.ireturn, 1) := dk_172 (dk_at dksX5_run_5 12 rfl rfl)
theorem dX5_run_130 : decode cX5_run 130 = .ok (.aload_n 0, 1) := dk_42 (dk_at dksX5_run_5 13 rfl rfl)
theorem dX5_run_131 : decode cX5_run 131 = .ok (.aload_n 0, 1) := dk_42 (dk_at dksX5_run_5 14 rfl rfl)
theorem dX5_run_132 : decode cX5_run 132 = .ok (.getfield 130, 3) := dk_180 0 130 (dk_at dksX5_run_5 15 rfl rfl)
theorem dX5_run_135 : decode cX5_run 135 = .ok (.iload_n 1, 1) := dk_27 (dk_at dksX5_run_5 18 rfl rfl)
theorem dX5_run_136 : decode cX5_run 136 = .ok (.iaload, 1) := dk_46 (dk_at dksX5_run_5 19 rfl rfl)
theorem dX5_run_137 : decode cX5_run 137 = .ok (.iconst 2, 1) := dk_5 (dk_at dksX5_run_5 20 rfl rfl)
theorem dX5_run_138 : decode cX5_run 138 = .ok (.if_icmp .ne 8, 3) := dk_160 0 8 (dk_at dksX5_run_5 21 rfl rfl)
theorem dX5_run_141 : decode cX5_run 141 = .ok (.iload 4, 2) := dk_21 4 (dk_at dksX5_run_6 0 rfl rfl)
theorem dX5_run_143 : decode cX5_run 143 = .ok (.goto 7, 3) := dk_167 0 7 (dk_at dksX5_run_6 2 rfl rfl)
theorem dX5_run_146 : decode cX5_run 146 = .ok (.aload_n 0, 1) := dk_42 (dk_at dksX5_run_6 5 rfl rfl)
theorem dX5_run_147 : decode cX5_run 147 = .ok (.getfield 499, 3) := dk_180 1 243 (dk_at dksX5_run_6 6 rfl rfl)
theorem dX5_run_150 : decode cX5_run 150 = .ok (.putfield 499, 3) := dk_181 1 243 (dk_at dksX5_run_6 9 rfl rfl)
theorem dX5_run_153 : decode cX5_run 153 = .ok (.aload_n 0, 1) := dk_42 (dk_at dksX5_run_6 12 rfl rfl)
theorem dX5_run_154 : decode cX5_run 154 = .ok (.dup, 1) := dk_89 (dk_at dksX5_run_6 13 rfl rfl)
theorem dX5_run_155 : decode cX5_run 155 = .ok (.getfield 496, 3) := dk_180 1 240 (dk_at dksX5_run_6 14 rfl rfl)
theorem dX5_run_158 : decode cX5_run 158 = .ok (.iconst 1, 1) := dk_4 (dk_at dksX5_run_6 17 rfl rfl)
theorem dX5_run_159 : decode cX5_run 159 = .ok (.iadd, 1) := dk_96 (dk_at dksX5_run_6 18 rfl rfl)
theorem dX5_run_160 : decode cX5_run 160 = .ok (.putfield 496, 3) := dk_181 1 240 (dk_at dksX5_run_6 19 rfl rfl)
theorem dX5_run_163 : decode cX5_run 163 = .ok (.iconst 0, 1) := dk_3 (dk_at dksX5_run_6 22 rfl rfl)
theorem dX5_run_164 : decode cX5_run 164 = .ok (.ireturn, 1) := dk_172 (dk_at dksX5_run_6 23 rfl rfl)
abbrev cX5_sumOf : ByteArray := prog_22_method_105_code
def yX5_sumOf : MethodName := ⟨RX5, "sumOf", "(I)I"⟩
def dkwX5_sumOf_2 : List UInt8 := [182, 1, 128, 42, 3, 181, 1, 44, 42, 42, 180, 1, 111, 181, 1, 237, 42, 180, 1, 125, 136, 172]
abbrev dktX5_sumOf_2 : List UInt8 := dkwX5_sumOf_2 ++ []
def dkwX5_sumOf_1 : List UInt8 := [2, 172, 42, 4, 181, 1, 44, 42, 42, 180, 0, 130, 27, 46, 42, 180, 0, 130, 27, 4, 96, 46]
abbrev dktX5_sumOf_1 : List UInt8 := dkwX5_sumOf_1 ++ dktX5_sumOf_2
def dkwX5_sumOf_0 : List UInt8 := [42, 180, 1, 237, 154, 0, 20, 42, 180, 0, 130, 27, 46, 42, 180, 0, 130, 27, 4, 96, 46, 160, 0, 5]
abbrev dktX5_sumOf_0 : List UInt8 := dkwX5_sumOf_0 ++ dktX5_sumOf_1
theorem dksX5_sumOf_0 : cX5_sumOf.data.toList.drop 0 = dktX5_sumOf_0 := by decide +kernel
theorem dksX5_sumOf_1 : cX5_sumOf.data.toList.drop 24 = dktX5_sumOf_1 := dk_seg dksX5_sumOf_0 24 rfl rfl
theorem dksX5_sumOf_2 : cX5_sumOf.data.toList.drop 46 = dktX5_sumOf_2 := dk_seg dksX5_sumOf_1 22 rfl rfl
theorem dX5_sumOf_0 : decode cX5_sumOf 0 = .ok (.aload_n 0, 1) := dk_42 (dk_at dksX5_sumOf_0 0 rfl rfl)
theorem dX5_sumOf_1 : decode cX5_sumOf 1 = .ok (.getfield 493, 3) := dk_180 1 237 (dk_at dksX5_sumOf_0 1 rfl rfl)
theorem dX5_sumOf_4 : decode cX5_sumOf 4 = .ok (.ifCond .ne 20, 3) := dk_154 0 20 (dk_at dksX5_sumOf_0 4 rfl rfl)
theorem dX5_sumOf_7 : decode cX5_sumOf 7 = .ok (.aload_n 0, 1) := dk_42 (dk_at dksX5_sumOf_0 7 rfl rfl)
theorem dX5_sumOf_8 : decode cX5_sumOf 8 = .ok (.getfield 130, 3) := dk_180 0 130 (dk_at dksX5_sumOf_0 8 rfl rfl)
theorem dX5_sumOf_11 : decode cX5_sumOf 11 = .ok (.iload_n 1, 1) := dk_27 (dk_at dksX5_sumOf_0 11 rfl rfl)
theorem dX5_sumOf_12 : decode cX5_sumOf 12 = .ok (.iaload, 1) := dk_46 (dk_at dksX5_sumOf_0 12 rfl rfl)
theorem dX5_sumOf_13 : decode cX5_sumOf 13 = .ok (.aload_n 0, 1) := dk_42 (dk_at dksX5_sumOf_0 13 rfl rfl)
theorem dX5_sumOf_14 : decode cX5_sumOf 14 = .ok (.getfield 130, 3) := dk_180 0 130 (dk_at dksX5_sumOf_0 14 rfl rfl)
theorem dX5_sumOf_17 : decode cX5_sumOf 17 = .ok (.iload_n 1, 1) := dk_27 (dk_at dksX5_sumOf_0 17 rfl rfl)
theorem dX5_sumOf_18 : decode cX5_sumOf 18 = .ok (.iconst 1, 1) := dk_4 (dk_at dksX5_sumOf_0 18 rfl rfl)
theorem dX5_sumOf_19 : decode cX5_sumOf 19 = .ok (.iadd, 1) := dk_96 (dk_at dksX5_sumOf_0 19 rfl rfl)
theorem dX5_sumOf_20 : decode cX5_sumOf 20 = .ok (.iaload, 1) := dk_46 (dk_at dksX5_sumOf_0 20 rfl rfl)
theorem dX5_sumOf_21 : decode cX5_sumOf 21 = .ok (.if_icmp .ne 5, 3) := dk_160 0 5 (dk_at dksX5_sumOf_0 21 rfl rfl)
theorem dX5_sumOf_24 : decode cX5_sumOf 24 = .ok (.iconst (-1), 1) := dk_2 (dk_at dksX5_sumOf_1 0 rfl rfl)
theorem dX5_sumOf_25 : decode cX5_sumOf 25 = .ok (.ireturn, 1) := dk_172 (dk_at dksX5_sumOf_1 1 rfl rfl)
theorem dX5_sumOf_26 : decode cX5_sumOf 26 = .ok (.aload_n 0, 1) := dk_42 (dk_at dksX5_sumOf_1 2 rfl rfl)
theorem dX5_sumOf_27 : decode cX5_sumOf 27 = .ok (.iconst 1, 1) := dk_4 (dk_at dksX5_sumOf_1 3 rfl rfl)
theorem dX5_sumOf_28 : decode cX5_sumOf 28 = .ok (.putfield 300, 3) := dk_181 1 44 (dk_at dksX5_sumOf_1 4 rfl rfl)
theorem dX5_sumOf_31 : decode cX5_sumOf 31 = .ok (.aload_n 0, 1) := dk_42 (dk_at dksX5_sumOf_1 7 rfl rfl)
theorem dX5_sumOf_32 : decode cX5_sumOf 32 = .ok (.aload_n 0, 1) := dk_42 (dk_at dksX5_sumOf_1 8 rfl rfl)
theorem dX5_sumOf_33 : decode cX5_sumOf 33 = .ok (.getfield 130, 3) := dk_180 0 130 (dk_at dksX5_sumOf_1 9 rfl rfl)
theorem dX5_sumOf_36 : decode cX5_sumOf 36 = .ok (.iload_n 1, 1) := dk_27 (dk_at dksX5_sumOf_1 12 rfl rfl)
theorem dX5_sumOf_37 : decode cX5_sumOf 37 = .ok (.iaload, 1) := dk_46 (dk_at dksX5_sumOf_1 13 rfl rfl)
theorem dX5_sumOf_38 : decode cX5_sumOf 38 = .ok (.aload_n 0, 1) := dk_42 (dk_at dksX5_sumOf_1 14 rfl rfl)
theorem dX5_sumOf_39 : decode cX5_sumOf 39 = .ok (.getfield 130, 3) := dk_180 0 130 (dk_at dksX5_sumOf_1 15 rfl rfl)
theorem dX5_sumOf_42 : decode cX5_sumOf 42 = .ok (.iload_n 1, 1) := dk_27 (dk_at dksX5_sumOf_1 18 rfl rfl)
theorem dX5_sumOf_43 : decode cX5_sumOf 43 = .ok (.iconst 1, 1) := dk_4 (dk_at dksX5_sumOf_1 19 rfl rfl)
theorem dX5_sumOf_44 : decode cX5_sumOf 44 = .ok (.iadd, 1) := dk_96 (dk_at dksX5_sumOf_1 20 rfl rfl)
theorem dX5_sumOf_45 : decode cX5_sumOf 45 = .ok (.iaload, 1) := dk_46 (dk_at dksX5_sumOf_1 21 rfl rfl)
theorem dX5_sumOf_46 : decode cX5_sumOf 46 = .ok (.invokevirtual 384, 3) := dk_182 1 128 (dk_at dksX5_sumOf_2 0 rfl rfl)
theorem dX5_sumOf_49 : decode cX5_sumOf 49 = .ok (.aload_n 0, 1) := dk_42 (dk_at dksX5_sumOf_2 3 rfl rfl)
theorem dX5_sumOf_50 : decode cX5_sumOf 50 = .ok (.iconst 0, 1) := dk_3 (dk_at dksX5_sumOf_2 4 rfl rfl)
theorem dX5_sumOf_51 : decode cX5_sumOf 51 = .ok (.putfield 300, 3) := dk_181 1 44 (dk_at dksX5_sumOf_2 5 rfl rfl)
theorem dX5_sumOf_54 : decode cX5_sumOf 54 = .ok (.aload_n 0, 1) := dk_42 (dk_at dksX5_sumOf_2 8 rfl rfl)
theorem dX5_sumOf_55 : decode cX5_sumOf 55 = .ok (.aload_n 0, 1) := dk_42 (dk_at dksX5_sumOf_2 9 rfl rfl)
theorem dX5_sumOf_56 : decode cX5_sumOf 56 = .ok (.getfield 367, 3) := dk_180 1 111 (dk_at dksX5_sumOf_2 10 rfl rfl)
theorem dX5_sumOf_59 : decode cX5_sumOf 59 = .ok (.putfield 493, 3) := dk_181 1 237 (dk_at dksX5_sumOf_2 13 rfl rfl)
theorem dX5_sumOf_62 : decode cX5_sumOf 62 = .ok (.aload_n 0, 1) := dk_42 (dk_at dksX5_sumOf_2 16 rfl rfl)
theorem dX5_sumOf_63 : decode cX5_sumOf 63 = .ok (.getfield 381, 3) := dk_180 1 125 (dk_at dksX5_sumOf_2 17 rfl rfl)
theorem dX5_sumOf_66 : decode cX5_sumOf 66 = .ok (.l2i, 1) := dk_136 (dk_at dksX5_sumOf_2 20 rfl rfl)
theorem dX5_sumOf_67 : decode cX5_sumOf 67 = .ok (.ireturn, 1) := dk_172 (dk_at dksX5_sumOf_2 21 rfl rfl)
abbrev cX5_act : ByteArray := prog_22_method_106_code
def yX5_act : MethodName := ⟨RX5, "act", "(III)I"⟩
def dkwX5_act_3 : List UInt8 := [182, 1, 178, 172]
abbrev dktX5_act_3 : List UInt8 := dkwX5_act_3 ++ []
def dkwX5_act_2 : List UInt8 := [42, 29, 28, 182, 1, 170, 172, 42, 29, 28, 182, 1, 173, 172, 42, 28, 29, 182, 1, 187, 172, 42, 28, 29]
abbrev dktX5_act_2 : List UInt8 := dkwX5_act_2 ++ dktX5_act_3
def dkwX5_act_1 : List UInt8 := [170, 0, 0, 0, 0, 0, 48, 0, 0, 0, 0, 0, 0, 0, 2, 0, 0, 0, 27, 0, 0, 0, 34, 0, 0, 0, 41]
abbrev dktX5_act_1 : List UInt8 := dkwX5_act_1 ++ dktX5_act_2
def dkwX5_act_0 : List UInt8 := [27]
abbrev dktX5_act_0 : List UInt8 := dkwX5_act_0 ++ dktX5_act_1
theorem dksX5_act_0 : cX5_act.data.toList.drop 0 = dktX5_act_0 := by decide +kernel
theorem dksX5_act_1 : cX5_act.data.toList.drop 1 = dktX5_act_1 := dk_seg dksX5_act_0 1 rfl rfl
theorem dksX5_act_2 : cX5_act.data.toList.drop 28 = dktX5_act_2 := dk_seg dksX5_act_1 27 rfl rfl
theorem dksX5_act_3 : cX5_act.data.toList.drop 52 = dktX5_act_3 := dk_seg dksX5_act_2 24 rfl rfl
theorem dX5_act_0 : decode cX5_act 0 = .ok (.iload_n 1, 1) := dk_27 (dk_at dksX5_act_0 0 rfl rfl)
theorem dX5_act_1 : decode cX5_act 1 = .ok (.tableswitch 48 0 2 #[27, 34, 41], 27) := by decide +kernel
theorem dX5_act_28 : decode cX5_act 28 = .ok (.aload_n 0, 1) := dk_42 (dk_at dksX5_act_2 0 rfl rfl)
theorem dX5_act_29 : decode cX5_act 29 = .ok (.iload_n 3, 1) := dk_29 (dk_at dksX5_act_2 1 rfl rfl)
theorem dX5_act_30 : decode cX5_act 30 = .ok (.iload_n 2, 1) := dk_28 (dk_at dksX5_act_2 2 rfl rfl)
theorem dX5_act_31 : decode cX5_act 31 = .ok (.invokevirtual 426, 3) := dk_182 1 170 (dk_at dksX5_act_2 3 rfl rfl)
theorem dX5_act_34 : decode cX5_act 34 = .ok (.ireturn, 1) := dk_172 (dk_at dksX5_act_2 6 rfl rfl)
theorem dX5_act_35 : decode cX5_act 35 = .ok (.aload_n 0, 1) := dk_42 (dk_at dksX5_act_2 7 rfl rfl)
theorem dX5_act_36 : decode cX5_act 36 = .ok (.iload_n 3, 1) := dk_29 (dk_at dksX5_act_2 8 rfl rfl)
theorem dX5_act_37 : decode cX5_act 37 = .ok (.iload_n 2, 1) := dk_28 (dk_at dksX5_act_2 9 rfl rfl)
theorem dX5_act_38 : decode cX5_act 38 = .ok (.invokevirtual 429, 3) := dk_182 1 173 (dk_at dksX5_act_2 10 rfl rfl)
theorem dX5_act_41 : decode cX5_act 41 = .ok (.ireturn, 1) := dk_172 (dk_at dksX5_act_2 13 rfl rfl)
theorem dX5_act_42 : decode cX5_act 42 = .ok (.aload_n 0, 1) := dk_42 (dk_at dksX5_act_2 14 rfl rfl)
theorem dX5_act_43 : decode cX5_act 43 = .ok (.iload_n 2, 1) := dk_28 (dk_at dksX5_act_2 15 rfl rfl)
theorem dX5_act_44 : decode cX5_act 44 = .ok (.iload_n 3, 1) := dk_29 (dk_at dksX5_act_2 16 rfl rfl)
theorem dX5_act_45 : decode cX5_act 45 = .ok (.invokevirtual 443, 3) := dk_182 1 187 (dk_at dksX5_act_2 17 rfl rfl)
theorem dX5_act_48 : decode cX5_act 48 = .ok (.ireturn, 1) := dk_172 (dk_at dksX5_act_2 20 rfl rfl)
theorem dX5_act_49 : decode cX5_act 49 = .ok (.aload_n 0, 1) := dk_42 (dk_at dksX5_act_2 21 rfl rfl)
theorem dX5_act_50 : decode cX5_act 50 = .ok (.iload_n 2, 1) := dk_28 (dk_at dksX5_act_2 22 rfl rfl)
theorem dX5_act_51 : decode cX5_act 51 = .ok (.iload_n 3, 1) := dk_29 (dk_at dksX5_act_2 23 rfl rfl)
theorem dX5_act_52 : decode cX5_act 52 = .ok (.invokevirtual 434, 3) := dk_182 1 178 (dk_at dksX5_act_3 0 rfl rfl)
theorem dX5_act_55 : decode cX5_act 55 = .ok (.ireturn, 1) := dk_172 (dk_at dksX5_act_3 3 rfl rfl)
abbrev cX5_giveBack : ByteArray := prog_22_method_109_code
def yX5_giveBack : MethodName := ⟨RX5, "giveBack", "(I)V"⟩
def dkwX5_giveBack_2 : List UInt8 := [180, 0, 32, 28, 46, 79, 132, 2, 1, 167, 255, 235, 42, 27, 181, 0, 148, 177]
abbrev dktX5_giveBack_2 : List UInt8 := dkwX5_giveBack_2 ++ []
def dkwX5_giveBack_1 : List UInt8 := [28, 46, 79, 132, 2, 1, 167, 255, 234, 3, 61, 28, 16, 16, 162, 0, 21, 42, 180, 0, 26, 28, 42]
abbrev dktX5_giveBack_1 : List UInt8 := dkwX5_giveBack_1 ++ dktX5_giveBack_2
def dkwX5_giveBack_0 : List UInt8 := [42, 16, 17, 182, 0, 159, 3, 61, 28, 17, 1, 144, 162, 0, 21, 42, 180, 0, 23, 28, 42, 180, 0, 29]
abbrev dktX5_giveBack_0 : List UInt8 := dkwX5_giveBack_0 ++ dktX5_giveBack_1
theorem dksX5_giveBack_0 : cX5_giveBack.data.toList.drop 0 = dktX5_giveBack_0 := by decide +kernel
theorem dksX5_giveBack_1 : cX5_giveBack.data.toList.drop 24 = dktX5_giveBack_1 := dk_seg dksX5_giveBack_0 24 rfl rfl
theorem dksX5_giveBack_2 : cX5_giveBack.data.toList.drop 47 = dktX5_giveBack_2 := dk_seg dksX5_giveBack_1 23 rfl rfl
theorem dX5_giveBack_0 : decode cX5_giveBack 0 = .ok (.aload_n 0, 1) := dk_42 (dk_at dksX5_giveBack_0 0 rfl rfl)
theorem dX5_giveBack_1 : decode cX5_giveBack 1 = .ok (.bipush 17, 2) := dk_16 17 (dk_at dksX5_giveBack_0 1 rfl rfl)
theorem dX5_giveBack_3 : decode cX5_giveBack 3 = .ok (.invokevirtual 159, 3) := dk_182 0 159 (dk_at dksX5_giveBack_0 3 rfl rfl)
theorem dX5_giveBack_6 : decode cX5_giveBack 6 = .ok (.iconst 0, 1) := dk_3 (dk_at dksX5_giveBack_0 6 rfl rfl)
theorem dX5_giveBack_7 : decode cX5_giveBack 7 = .ok (.istore_n 2, 1) := dk_61 (dk_at dksX5_giveBack_0 7 rfl rfl)
theorem dX5_giveBack_8 : decode cX5_giveBack 8 = .ok (.iload_n 2, 1) := dk_28 (dk_at dksX5_giveBack_0 8 rfl rfl)
theorem dX5_giveBack_9 : decode cX5_giveBack 9 = .ok (.sipush 400, 3) := dk_17 1 144 (dk_at dksX5_giveBack_0 9 rfl rfl)
theorem dX5_giveBack_12 : decode cX5_giveBack 12 = .ok (.if_icmp .ge 21, 3) := dk_162 0 21 (dk_at dksX5_giveBack_0 12 rfl rfl)
theorem dX5_giveBack_15 : decode cX5_giveBack 15 = .ok (.aload_n 0, 1) := dk_42 (dk_at dksX5_giveBack_0 15 rfl rfl)
theorem dX5_giveBack_16 : decode cX5_giveBack 16 = .ok (.getfield 23, 3) := dk_180 0 23 (dk_at dksX5_giveBack_0 16 rfl rfl)
theorem dX5_giveBack_19 : decode cX5_giveBack 19 = .ok (.iload_n 2, 1) := dk_28 (dk_at dksX5_giveBack_0 19 rfl rfl)
theorem dX5_giveBack_20 : decode cX5_giveBack 20 = .ok (.aload_n 0, 1) := dk_42 (dk_at dksX5_giveBack_0 20 rfl rfl)
theorem dX5_giveBack_21 : decode cX5_giveBack 21 = .ok (.getfield 29, 3) := dk_180 0 29 (dk_at dksX5_giveBack_0 21 rfl rfl)
theorem dX5_giveBack_24 : decode cX5_giveBack 24 = .ok (.iload_n 2, 1) := dk_28 (dk_at dksX5_giveBack_1 0 rfl rfl)
theorem dX5_giveBack_25 : decode cX5_giveBack 25 = .ok (.iaload, 1) := dk_46 (dk_at dksX5_giveBack_1 1 rfl rfl)
theorem dX5_giveBack_26 : decode cX5_giveBack 26 = .ok (.iastore, 1) := dk_79 (dk_at dksX5_giveBack_1 2 rfl rfl)
theorem dX5_giveBack_27 : decode cX5_giveBack 27 = .ok (.iinc 2 1, 3) := dk_132 2 1 (dk_at dksX5_giveBack_1 3 rfl rfl)
theorem dX5_giveBack_30 : decode cX5_giveBack 30 = .ok (.goto (-22), 3) := dk_167 255 234 (dk_at dksX5_giveBack_1 6 rfl rfl)
theorem dX5_giveBack_33 : decode cX5_giveBack 33 = .ok (.iconst 0, 1) := dk_3 (dk_at dksX5_giveBack_1 9 rfl rfl)
theorem dX5_giveBack_34 : decode cX5_giveBack 34 = .ok (.istore_n 2, 1) := dk_61 (dk_at dksX5_giveBack_1 10 rfl rfl)
theorem dX5_giveBack_35 : decode cX5_giveBack 35 = .ok (.iload_n 2, 1) := dk_28 (dk_at dksX5_giveBack_1 11 rfl rfl)
theorem dX5_giveBack_36 : decode cX5_giveBack 36 = .ok (.bipush 16, 2) := dk_16 16 (dk_at dksX5_giveBack_1 12 rfl rfl)
theorem dX5_giveBack_38 : decode cX5_giveBack 38 = .ok (.if_icmp .ge 21, 3) := dk_162 0 21 (dk_at dksX5_giveBack_1 14 rfl rfl)
theorem dX5_giveBack_41 : decode cX5_giveBack 41 = .ok (.aload_n 0, 1) := dk_42 (dk_at dksX5_giveBack_1 17 rfl rfl)
theorem dX5_giveBack_42 : decode cX5_giveBack 42 = .ok (.getfield 26, 3) := dk_180 0 26 (dk_at dksX5_giveBack_1 18 rfl rfl)
theorem dX5_giveBack_45 : decode cX5_giveBack 45 = .ok (.iload_n 2, 1) := dk_28 (dk_at dksX5_giveBack_1 21 rfl rfl)
theorem dX5_giveBack_46 : decode cX5_giveBack 46 = .ok (.aload_n 0, 1) := dk_42 (dk_at dksX5_giveBack_1 22 rfl rfl)
theorem dX5_giveBack_47 : decode cX5_giveBack 47 = .ok (.getfield 32, 3) := dk_180 0 32 (dk_at dksX5_giveBack_2 0 rfl rfl)
theorem dX5_giveBack_50 : decode cX5_giveBack 50 = .ok (.iload_n 2, 1) := dk_28 (dk_at dksX5_giveBack_2 3 rfl rfl)
theorem dX5_giveBack_51 : decode cX5_giveBack 51 = .ok (.iaload, 1) := dk_46 (dk_at dksX5_giveBack_2 4 rfl rfl)
theorem dX5_giveBack_52 : decode cX5_giveBack 52 = .ok (.iastore, 1) := dk_79 (dk_at dksX5_giveBack_2 5 rfl rfl)
theorem dX5_giveBack_53 : decode cX5_giveBack 53 = .ok (.iinc 2 1, 3) := dk_132 2 1 (dk_at dksX5_giveBack_2 6 rfl rfl)
theorem dX5_giveBack_56 : decode cX5_giveBack 56 = .ok (.goto (-21), 3) := dk_167 255 235 (dk_at dksX5_giveBack_2 9 rfl rfl)
theorem dX5_giveBack_59 : decode cX5_giveBack 59 = .ok (.aload_n 0, 1) := dk_42 (dk_at dksX5_giveBack_2 12 rfl rfl)
theorem dX5_giveBack_60 : decode cX5_giveBack 60 = .ok (.iload_n 1, 1) := dk_27 (dk_at dksX5_giveBack_2 13 rfl rfl)
theorem dX5_giveBack_61 : decode cX5_giveBack 61 = .ok (.putfield 148, 3) := dk_181 0 148 (dk_at dksX5_giveBack_2 14 rfl rfl)
theorem dX5_giveBack_64 : decode cX5_giveBack 64 = .ok (.return_, 1) := dk_177 (dk_at dksX5_giveBack_2 17 rfl rfl)
abbrev cX5_stopped : ByteArray := prog_22_method_110_code
def yX5_stopped : MethodName := ⟨RX5, "stopped", "()I"⟩
def dkwX5_stopped_0 : List UInt8 := [42, 3, 181, 0, 142, 42, 180, 0, 133, 172]
abbrev dktX5_stopped_0 : List UInt8 := dkwX5_stopped_0 ++ []
theorem dksX5_stopped_0 : cX5_stopped.data.toList.drop 0 = dktX5_stopped_0 := by decide +kernel
theorem dX5_stopped_0 : decode cX5_stopped 0 = .ok (.aload_n 0, 1) := dk_42 (dk_at dksX5_stopped_0 0 rfl rfl)
theorem dX5_stopped_1 : decode cX5_stopped 1 = .ok (.iconst 0, 1) := dk_3 (dk_at dksX5_stopped_0 1 rfl rfl)
theorem dX5_stopped_2 : decode cX5_stopped 2 = .ok (.putfield 142, 3) := dk_181 0 142 (dk_at dksX5_stopped_0 2 rfl rfl)
theorem dX5_stopped_5 : decode cX5_stopped 5 = .ok (.aload_n 0, 1) := dk_42 (dk_at dksX5_stopped_0 5 rfl rfl)
theorem dX5_stopped_6 : decode cX5_stopped 6 = .ok (.getfield 133, 3) := dk_180 0 133 (dk_at dksX5_stopped_0 6 rfl rfl)
theorem dX5_stopped_9 : decode cX5_stopped 9 = .ok (.ireturn, 1) := dk_172 (dk_at dksX5_stopped_0 9 rfl rfl)
abbrev cX5_sieges : ByteArray := prog_22_method_112_code
def yX5_sieges : MethodName := ⟨RX5, "sieges", "(II)I"⟩
def dkwX5_sieges_15 : List UInt8 := [182, 0, 155, 172]
abbrev dktX5_sieges_15 : List UInt8 := dkwX5_sieges_15 ++ []
def dkwX5_sieges_14 : List UInt8 := [180, 0, 13, 16, 9, 21, 4, 96, 46, 79, 132, 4, 1, 167, 255, 227, 42, 16, 16, 182, 0, 159, 42, 29]
abbrev dktX5_sieges_14 : List UInt8 := dkwX5_sieges_14 ++ dktX5_sieges_15
def dkwX5_sieges_13 : List UInt8 := [167, 255, 183, 3, 54, 4, 21, 4, 7, 162, 0, 29, 42, 180, 0, 136, 16, 18, 21, 4, 96, 42]
abbrev dktX5_sieges_13 : List UInt8 := dkwX5_sieges_13 ++ dktX5_sieges_14
def dkwX5_sieges_12 : List UInt8 := [180, 0, 136, 6, 21, 4, 104, 5, 96, 42, 180, 0, 13, 16, 19, 21, 4, 96, 46, 79, 132, 4, 1]
abbrev dktX5_sieges_12 : List UInt8 := dkwX5_sieges_12 ++ dktX5_sieges_13
def dkwX5_sieges_11 : List UInt8 := [79, 42, 180, 0, 136, 6, 21, 4, 104, 4, 96, 42, 180, 0, 13, 16, 25, 21, 4, 96, 46, 79, 42]
abbrev dktX5_sieges_11 : List UInt8 := dkwX5_sieges_11 ++ dktX5_sieges_12
def dkwX5_sieges_10 : List UInt8 := [180, 0, 139, 162, 0, 70, 42, 180, 0, 136, 6, 21, 4, 104, 42, 180, 0, 13, 16, 13, 21, 4, 96, 46]
abbrev dktX5_sieges_10 : List UInt8 := dkwX5_sieges_10 ++ dktX5_sieges_11
def dkwX5_sieges_9 : List UInt8 := [132, 4, 1, 167, 255, 110, 42, 42, 180, 0, 13, 3, 46, 181, 0, 139, 3, 54, 4, 21, 4, 42]
abbrev dktX5_sieges_9 : List UInt8 := dkwX5_sieges_9 ++ dktX5_sieges_10
def dkwX5_sieges_8 : List UInt8 := [153, 0, 19, 42, 21, 6, 21, 5, 182, 1, 184, 4, 160, 0, 7, 4, 167, 0, 4, 3, 96, 62]
abbrev dktX5_sieges_8 : List UInt8 := dkwX5_sieges_8 ++ dktX5_sieges_9
def dkwX5_sieges_7 : List UInt8 := [153, 0, 13, 21, 8, 4, 21, 7, 120, 128, 167, 0, 5, 21, 8, 79, 29, 42, 21, 5, 182, 1, 181]
abbrev dktX5_sieges_7 : List UInt8 := dkwX5_sieges_7 ++ dktX5_sieges_8
def dkwX5_sieges_6 : List UInt8 := [184, 0, 170, 153, 0, 13, 21, 8, 4, 21, 7, 120, 100, 167, 0, 26, 42, 21, 5, 21, 7, 182, 1, 164]
abbrev dktX5_sieges_6 : List UInt8 := dkwX5_sieges_6 ++ dktX5_sieges_7
def dkwX5_sieges_5 : List UInt8 := [180, 0, 13, 16, 19, 21, 5, 96, 46, 54, 8, 42, 180, 0, 13, 16, 19, 21, 5, 96, 21, 8, 21, 7]
abbrev dktX5_sieges_5 : List UInt8 := dkwX5_sieges_5 ++ dktX5_sieges_6
def dkwX5_sieges_4 : List UInt8 := [54, 6, 42, 16, 6, 182, 2, 16, 54, 7, 42, 180, 0, 13, 16, 25, 21, 5, 96, 46, 154, 0, 97, 42]
abbrev dktX5_sieges_4 : List UInt8 := dkwX5_sieges_4 ++ dktX5_sieges_5
def dkwX5_sieges_3 : List UInt8 := [162, 0, 146, 42, 42, 180, 0, 13, 3, 46, 182, 2, 16, 54, 5, 42, 16, 99, 182, 2, 16, 4, 96]
abbrev dktX5_sieges_3 : List UInt8 := dkwX5_sieges_3 ++ dktX5_sieges_4
def dkwX5_sieges_2 : List UInt8 := [182, 0, 155, 172, 42, 16, 16, 182, 0, 151, 42, 27, 133, 181, 2, 5, 3, 62, 3, 54, 4, 21, 4, 28]
abbrev dktX5_sieges_2 : List UInt8 := dkwX5_sieges_2 ++ dktX5_sieges_3
def dkwX5_sieges_1 : List UInt8 := [184, 0, 162, 154, 0, 9, 42, 2, 182, 0, 155, 172, 42, 180, 0, 13, 3, 46, 154, 0, 10, 42, 16, 253]
abbrev dktX5_sieges_1 : List UInt8 := dkwX5_sieges_1 ++ dktX5_sieges_2
def dkwX5_sieges_0 : List UInt8 := [42, 3, 181, 0, 142, 27, 133, 9, 20, 0, 174, 184, 0, 162, 153, 0, 15, 28, 133, 10, 20, 2, 14]
abbrev dktX5_sieges_0 : List UInt8 := dkwX5_sieges_0 ++ dktX5_sieges_1
theorem dksX5_sieges_0 : cX5_sieges.data.toList.drop 0 = dktX5_sieges_0 := by decide +kernel
theorem dksX5_sieges_1 : cX5_sieges.data.toList.drop 23 = dktX5_sieges_1 := dk_seg dksX5_sieges_0 23 rfl rfl
theorem dksX5_sieges_2 : cX5_sieges.data.toList.drop 47 = dktX5_sieges_2 := dk_seg dksX5_sieges_1 24 rfl rfl
theorem dksX5_sieges_3 : cX5_sieges.data.toList.drop 71 = dktX5_sieges_3 := dk_seg dksX5_sieges_2 24 rfl rfl
theorem dksX5_sieges_4 : cX5_sieges.data.toList.drop 94 = dktX5_sieges_4 := dk_seg dksX5_sieges_3 23 rfl rfl
theorem dksX5_sieges_5 : cX5_sieges.data.toList.drop 118 = dktX5_sieges_5 := dk_seg dksX5_sieges_4 24 rfl rfl
theorem dksX5_sieges_6 : cX5_sieges.data.toList.drop 142 = dktX5_sieges_6 := dk_seg dksX5_sieges_5 24 rfl rfl
theorem dksX5_sieges_7 : cX5_sieges.data.toList.drop 166 = dktX5_sieges_7 := dk_seg dksX5_sieges_6 24 rfl rfl
theorem dksX5_sieges_8 : cX5_sieges.data.toList.drop 189 = dktX5_sieges_8 := dk_seg dksX5_sieges_7 23 rfl rfl
theorem dksX5_sieges_9 : cX5_sieges.data.toList.drop 211 = dktX5_sieges_9 := dk_seg dksX5_sieges_8 22 rfl rfl
theorem dksX5_sieges_10 : cX5_sieges.data.toList.drop 233 = dktX5_sieges_10 := dk_seg dksX5_sieges_9 22 rfl rfl
theorem dksX5_sieges_11 : cX5_sieges.data.toList.drop 257 = dktX5_sieges_11 := dk_seg dksX5_sieges_10 24 rfl rfl
theorem dksX5_sieges_12 : cX5_sieges.data.toList.drop 280 = dktX5_sieges_12 := dk_seg dksX5_sieges_11 23 rfl rfl
theorem dksX5_sieges_13 : cX5_sieges.data.toList.drop 303 = dktX5_sieges_13 := dk_seg dksX5_sieges_12 23 rfl rfl
theorem dksX5_sieges_14 : cX5_sieges.data.toList.drop 325 = dktX5_sieges_14 := dk_seg dksX5_sieges_13 22 rfl rfl
theorem dksX5_sieges_15 : cX5_sieges.data.toList.drop 349 = dktX5_sieges_15 := dk_seg dksX5_sieges_14 24 rfl rfl
theorem dX5_sieges_0 : decode cX5_sieges 0 = .ok (.aload_n 0, 1) := dk_42 (dk_at dksX5_sieges_0 0 rfl rfl)
theorem dX5_sieges_1 : decode cX5_sieges 1 = .ok (.iconst 0, 1) := dk_3 (dk_at dksX5_sieges_0 1 rfl rfl)
theorem dX5_sieges_2 : decode cX5_sieges 2 = .ok (.putfield 142, 3) := dk_181 0 142 (dk_at dksX5_sieges_0 2 rfl rfl)
theorem dX5_sieges_5 : decode cX5_sieges 5 = .ok (.iload_n 1, 1) := dk_27 (dk_at dksX5_sieges_0 5 rfl rfl)
theorem dX5_sieges_6 : decode cX5_sieges 6 = .ok (.i2l, 1) := dk_133 (dk_at dksX5_sieges_0 6 rfl rfl)
theorem dX5_sieges_7 : decode cX5_sieges 7 = .ok (.lconst 0, 1) := dk_9 (dk_at dksX5_sieges_0 7 rfl rfl)
theorem dX5_sieges_8 : decode cX5_sieges 8 = .ok (.ldc2_w 174, 3) := dk_20 0 174 (dk_at dksX5_sieges_0 8 rfl rfl)
theorem dX5_sieges_11 : decode cX5_sieges 11 = .ok (.invokestatic 162, 3) := dk_184 0 162 (dk_at dksX5_sieges_0 11 rfl rfl)
theorem dX5_sieges_14 : decode cX5_sieges 14 = .ok (.ifCond .eq 15, 3) := dk_153 0 15 (dk_at dksX5_sieges_0 14 rfl rfl)
theorem dX5_sieges_17 : decode cX5_sieges 17 = .ok (.iload_n 2, 1) := dk_28 (dk_at dksX5_sieges_0 17 rfl rfl)
theorem dX5_sieges_18 : decode cX5_sieges 18 = .ok (.i2l, 1) := dk_133 (dk_at dksX5_sieges_0 18 rfl rfl)
theorem dX5_sieges_19 : decode cX5_sieges 19 = .ok (.lconst 1, 1) := dk_10 (dk_at dksX5_sieges_0 19 rfl rfl)
theorem dX5_sieges_20 : decode cX5_sieges 20 = .ok (.ldc2_w 526, 3) := dk_20 2 14 (dk_at dksX5_sieges_0 20 rfl rfl)
theorem dX5_sieges_23 : decode cX5_sieges 23 = .ok (.invokestatic 162, 3) := dk_184 0 162 (dk_at dksX5_sieges_1 0 rfl rfl)
theorem dX5_sieges_26 : decode cX5_sieges 26 = .ok (.ifCond .ne 9, 3) := dk_154 0 9 (dk_at dksX5_sieges_1 3 rfl rfl)
theorem dX5_sieges_29 : decode cX5_sieges 29 = .ok (.aload_n 0, 1) := dk_42 (dk_at dksX5_sieges_1 6 rfl rfl)
theorem dX5_sieges_30 : decode cX5_sieges 30 = .ok (.iconst (-1), 1) := dk_2 (dk_at dksX5_sieges_1 7 rfl rfl)
theorem dX5_sieges_31 : decode cX5_sieges 31 = .ok (.invokevirtual 155, 3) := dk_182 0 155 (dk_at dksX5_sieges_1 8 rfl rfl)
theorem dX5_sieges_34 : decode cX5_sieges 34 = .ok (.ireturn, 1) := dk_172 (dk_at dksX5_sieges_1 11 rfl rfl)
theorem dX5_sieges_35 : decode cX5_sieges 35 = .ok (.aload_n 0, 1) := dk_42 (dk_at dksX5_sieges_1 12 rfl rfl)
theorem dX5_sieges_36 : decode cX5_sieges 36 = .ok (.getfield 13, 3) := dk_180 0 13 (dk_at dksX5_sieges_1 13 rfl rfl)
theorem dX5_sieges_39 : decode cX5_sieges 39 = .ok (.iconst 0, 1) := dk_3 (dk_at dksX5_sieges_1 16 rfl rfl)
theorem dX5_sieges_40 : decode cX5_sieges 40 = .ok (.iaload, 1) := dk_46 (dk_at dksX5_sieges_1 17 rfl rfl)
theorem dX5_sieges_41 : decode cX5_sieges 41 = .ok (.ifCond .ne 10, 3) := dk_154 0 10 (dk_at dksX5_sieges_1 18 rfl rfl)
theorem dX5_sieges_44 : decode cX5_sieges 44 = .ok (.aload_n 0, 1) := dk_42 (dk_at dksX5_sieges_1 21 rfl rfl)
theorem dX5_sieges_45 : decode cX5_sieges 45 = .ok (.bipush (-3), 2) := dk_16 253 (dk_at dksX5_sieges_1 22 rfl rfl)
theorem dX5_sieges_47 : decode cX5_sieges 47 = .ok (.invokevirtual 155, 3) := dk_182 0 155 (dk_at dksX5_sieges_2 0 rfl rfl)
theorem dX5_sieges_50 : decode cX5_sieges 50 = .ok (.ireturn, 1) := dk_172 (dk_at dksX5_sieges_2 3 rfl rfl)
theorem dX5_sieges_51 : decode cX5_sieges 51 = .ok (.aload_n 0, 1) := dk_42 (dk_at dksX5_sieges_2 4 rfl rfl)
theorem dX5_sieges_52 : decode cX5_sieges 52 = .ok (.bipush 16, 2) := dk_16 16 (dk_at dksX5_sieges_2 5 rfl rfl)
theorem dX5_sieges_54 : decode cX5_sieges 54 = .ok (.invokevirtual 151, 3) := dk_182 0 151 (dk_at dksX5_sieges_2 7 rfl rfl)
theorem dX5_sieges_57 : decode cX5_sieges 57 = .ok (.aload_n 0, 1) := dk_42 (dk_at dksX5_sieges_2 10 rfl rfl)
theorem dX5_sieges_58 : decode cX5_sieges 58 = .ok (.iload_n 1, 1) := dk_27 (dk_at dksX5_sieges_2 11 rfl rfl)
theorem dX5_sieges_59 : decode cX5_sieges 59 = .ok (.i2l, 1) := dk_133 (dk_at dksX5_sieges_2 12 rfl rfl)
theorem dX5_sieges_60 : decode cX5_sieges 60 = .ok (.putfield 517, 3) := dk_181 2 5 (dk_at dksX5_sieges_2 13 rfl rfl)
theorem dX5_sieges_63 : decode cX5_sieges 63 = .ok (.iconst 0, 1) := dk_3 (dk_at dksX5_sieges_2 16 rfl rfl)
theorem dX5_sieges_64 : decode cX5_sieges 64 = .ok (.istore_n 3, 1) := dk_62 (dk_at dksX5_sieges_2 17 rfl rfl)
theorem dX5_sieges_65 : decode cX5_sieges 65 = .ok (.iconst 0, 1) := dk_3 (dk_at dksX5_sieges_2 18 rfl rfl)
theorem dX5_sieges_66 : decode cX5_sieges 66 = .ok (.istore 4, 2) := dk_54 4 (dk_at dksX5_sieges_2 19 rfl rfl)
theorem dX5_sieges_68 : decode cX5_sieges 68 = .ok (.iload 4, 2) := dk_21 4 (dk_at dksX5_sieges_2 21 rfl rfl)
theorem dX5_sieges_70 : decode cX5_sieges 70 = .ok (.iload_n 2, 1) := dk_28 (dk_at dksX5_sieges_2 23 rfl rfl)
theorem dX5_sieges_71 : decode cX5_sieges 71 = .ok (.if_icmp .ge 146, 3) := dk_162 0 146 (dk_at dksX5_sieges_3 0 rfl rfl)
theorem dX5_sieges_74 : decode cX5_sieges 74 = .ok (.aload_n 0, 1) := dk_42 (dk_at dksX5_sieges_3 3 rfl rfl)
theorem dX5_sieges_75 : decode cX5_sieges 75 = .ok (.aload_n 0, 1) := dk_42 (dk_at dksX5_sieges_3 4 rfl rfl)
theorem dX5_sieges_76 : decode cX5_sieges 76 = .ok (.getfield 13, 3) := dk_180 0 13 (dk_at dksX5_sieges_3 5 rfl rfl)
theorem dX5_sieges_79 : decode cX5_sieges 79 = .ok (.iconst 0, 1) := dk_3 (dk_at dksX5_sieges_3 8 rfl rfl)
theorem dX5_sieges_80 : decode cX5_sieges 80 = .ok (.iaload, 1) := dk_46 (dk_at dksX5_sieges_3 9 rfl rfl)
theorem dX5_sieges_81 : decode cX5_sieges 81 = .ok (.invokevirtual 528, 3) := dk_182 2 16 (dk_at dksX5_sieges_3 10 rfl rfl)
theorem dX5_sieges_84 : decode cX5_sieges 84 = .ok (.istore 5, 2) := dk_54 5 (dk_at dksX5_sieges_3 13 rfl rfl)
theorem dX5_sieges_86 : decode cX5_sieges 86 = .ok (.aload_n 0, 1) := dk_42 (dk_at dksX5_sieges_3 15 rfl rfl)
theorem dX5_sieges_87 : decode cX5_sieges 87 = .ok (.bipush 99, 2) := dk_16 99 (dk_at dksX5_sieges_3 16 rfl rfl)
theorem dX5_sieges_89 : decode cX5_sieges 89 = .ok (.invokevirtual 528, 3) := dk_182 2 16 (dk_at dksX5_sieges_3 18 rfl rfl)
theorem dX5_sieges_92 : decode cX5_sieges 92 = .ok (.iconst 1, 1) := dk_4 (dk_at dksX5_sieges_3 21 rfl rfl)
theorem dX5_sieges_93 : decode cX5_sieges 93 = .ok (.iadd, 1) := dk_96 (dk_at dksX5_sieges_3 22 rfl rfl)
theorem dX5_sieges_94 : decode cX5_sieges 94 = .ok (.istore 6, 2) := dk_54 6 (dk_at dksX5_sieges_4 0 rfl rfl)
theorem dX5_sieges_96 : decode cX5_sieges 96 = .ok (.aload_n 0, 1) := dk_42 (dk_at dksX5_sieges_4 2 rfl rfl)
theorem dX5_sieges_97 : decode cX5_sieges 97 = .ok (.bipush 6, 2) := dk_16 6 (dk_at dksX5_sieges_4 3 rfl rfl)
theorem dX5_sieges_99 : decode cX5_sieges 99 = .ok (.invokevirtual 528, 3) := dk_182 2 16 (dk_at dksX5_sieges_4 5 rfl rfl)
theorem dX5_sieges_102 : decode cX5_sieges 102 = .ok (.istore 7, 2) := dk_54 7 (dk_at dksX5_sieges_4 8 rfl rfl)
theorem dX5_sieges_104 : decode cX5_sieges 104 = .ok (.aload_n 0, 1) := dk_42 (dk_at dksX5_sieges_4 10 rfl rfl)
theorem dX5_sieges_105 : decode cX5_sieges 105 = .ok (.getfield 13, 3) := dk_180 0 13 (dk_at dksX5_sieges_4 11 rfl rfl)
theorem dX5_sieges_108 : decode cX5_sieges 108 = .ok (.bipush 25, 2) := dk_16 25 (dk_at dksX5_sieges_4 14 rfl rfl)
theorem dX5_sieges_110 : decode cX5_sieges 110 = .ok (.iload 5, 2) := dk_21 5 (dk_at dksX5_sieges_4 16 rfl rfl)
theorem dX5_sieges_112 : decode cX5_sieges 112 = .ok (.iadd, 1) := dk_96 (dk_at dksX5_sieges_4 18 rfl rfl)
theorem dX5_sieges_113 : decode cX5_sieges 113 = .ok (.iaload, 1) := dk_46 (dk_at dksX5_sieges_4 19 rfl rfl)
theorem dX5_sieges_114 : decode cX5_sieges 114 = .ok (.ifCond .ne 97, 3) := dk_154 0 97 (dk_at dksX5_sieges_4 20 rfl rfl)
theorem dX5_sieges_117 : decode cX5_sieges 117 = .ok (.aload_n 0, 1) := dk_42 (dk_at dksX5_sieges_4 23 rfl rfl)
theorem dX5_sieges_118 : decode cX5_sieges 118 = .ok (.getfield 13, 3) := dk_180 0 13 (dk_at dksX5_sieges_5 0 rfl rfl)
theorem dX5_sieges_121 : decode cX5_sieges 121 = .ok (.bipush 19, 2) := dk_16 19 (dk_at dksX5_sieges_5 3 rfl rfl)
theorem dX5_sieges_123 : decode cX5_sieges 123 = .ok (.iload 5, 2) := dk_21 5 (dk_at dksX5_sieges_5 5 rfl rfl)
theorem dX5_sieges_125 : decode cX5_sieges 125 = .ok (.iadd, 1) := dk_96 (dk_at dksX5_sieges_5 7 rfl rfl)
theorem dX5_sieges_126 : decode cX5_sieges 126 = .ok (.iaload, 1) := dk_46 (dk_at dksX5_sieges_5 8 rfl rfl)
theorem dX5_sieges_127 : decode cX5_sieges 127 = .ok (.istore 8, 2) := dk_54 8 (dk_at dksX5_sieges_5 9 rfl rfl)
theorem dX5_sieges_129 : decode cX5_sieges 129 = .ok (.aload_n 0, 1) := dk_42 (dk_at dksX5_sieges_5 11 rfl rfl)
theorem dX5_sieges_130 : decode cX5_sieges 130 = .ok (.getfield 13, 3) := dk_180 0 13 (dk_at dksX5_sieges_5 12 rfl rfl)
theorem dX5_sieges_133 : decode cX5_sieges 133 = .ok (.bipush 19, 2) := dk_16 19 (dk_at dksX5_sieges_5 15 rfl rfl)
theorem dX5_sieges_135 : decode cX5_sieges 135 = .ok (.iload 5, 2) := dk_21 5 (dk_at dksX5_sieges_5 17 rfl rfl)
theorem dX5_sieges_137 : decode cX5_sieges 137 = .ok (.iadd, 1) := dk_96 (dk_at dksX5_sieges_5 19 rfl rfl)
theorem dX5_sieges_138 : decode cX5_sieges 138 = .ok (.iload 8, 2) := dk_21 8 (dk_at dksX5_sieges_5 20 rfl rfl)
theorem dX5_sieges_140 : decode cX5_sieges 140 = .ok (.iload 7, 2) := dk_21 7 (dk_at dksX5_sieges_5 22 rfl rfl)
theorem dX5_sieges_142 : decode cX5_sieges 142 = .ok (.invokestatic 170, 3) := dk_184 0 170 (dk_at dksX5_sieges_6 0 rfl rfl)
theorem dX5_sieges_145 : decode cX5_sieges 145 = .ok (.ifCond .eq 13, 3) := dk_153 0 13 (dk_at dksX5_sieges_6 3 rfl rfl)
theorem dX5_sieges_148 : decode cX5_sieges 148 = .ok (.iload 8, 2) := dk_21 8 (dk_at dksX5_sieges_6 6 rfl rfl)
theorem dX5_sieges_150 : decode cX5_sieges 150 = .ok (.iconst 1, 1) := dk_4 (dk_at dksX5_sieges_6 8 rfl rfl)
theorem dX5_sieges_151 : decode cX5_sieges 151 = .ok (.iload 7, 2) := dk_21 7 (dk_at dksX5_sieges_6 9 rfl rfl)
theorem dX5_sieges_153 : decode cX5_sieges 153 = .ok (.ishl, 1) := dk_120 (dk_at dksX5_sieges_6 11 rfl rfl)
theorem dX5_sieges_154 : decode cX5_sieges 154 = .ok (.isub, 1) := dk_100 (dk_at dksX5_sieges_6 12 rfl rfl)
theorem dX5_sieges_155 : decode cX5_sieges 155 = .ok (.goto 26, 3) := dk_167 0 26 (dk_at dksX5_sieges_6 13 rfl rfl)
theorem dX5_sieges_158 : decode cX5_sieges 158 = .ok (.aload_n 0, 1) := dk_42 (dk_at dksX5_sieges_6 16 rfl rfl)
theorem dX5_sieges_159 : decode cX5_sieges 159 = .ok (.iload 5, 2) := dk_21 5 (dk_at dksX5_sieges_6 17 rfl rfl)
theorem dX5_sieges_161 : decode cX5_sieges 161 = .ok (.iload 7, 2) := dk_21 7 (dk_at dksX5_sieges_6 19 rfl rfl)
theorem dX5_sieges_163 : decode cX5_sieges 163 = .ok (.invokevirtual 420, 3) := dk_182 1 164 (dk_at dksX5_sieges_6 21 rfl rfl)
theorem dX5_sieges_166 : decode cX5_sieges 166 = .ok (.ifCond .eq 13, 3) := dk_153 0 13 (dk_at dksX5_sieges_7 0 rfl rfl)
theorem dX5_sieges_169 : decode cX5_sieges 169 = .ok (.iload 8, 2) := dk_21 8 (dk_at dksX5_sieges_7 3 rfl rfl)
theorem dX5_sieges_171 : decode cX5_sieges 171 = .ok (.iconst 1, 1) := dk_4 (dk_at dksX5_sieges_7 5 rfl rfl)
theorem dX5_sieges_172 : decode cX5_sieges 172 = .ok (.iload 7, 2) := dk_21 7 (dk_at dksX5_sieges_7 6 rfl rfl)
theorem dX5_sieges_174 : decode cX5_sieges 174 = .ok (.ishl, 1) := dk_120 (dk_at dksX5_sieges_7 8 rfl rfl)
theorem dX5_sieges_175 : decode cX5_sieges 175 = .ok (.ior, 1) := dk_128 (dk_at dksX5_sieges_7 9 rfl rfl)
theorem dX5_sieges_176 : decode cX5_sieges 176 = .ok (.goto 5, 3) := dk_167 0 5 (dk_at dksX5_sieges_7 10 rfl rfl)
theorem dX5_sieges_179 : decode cX5_sieges 179 = .ok (.iload 8, 2) := dk_21 8 (dk_at dksX5_sieges_7 13 rfl rfl)
theorem dX5_sieges_181 : decode cX5_sieges 181 = .ok (.iastore, 1) := dk_79 (dk_at dksX5_sieges_7 15 rfl rfl)
theorem dX5_sieges_182 : decode cX5_sieges 182 = .ok (.iload_n 3, 1) := dk_29 (dk_at dksX5_sieges_7 16 rfl rfl)
theorem dX5_sieges_183 : decode cX5_sieges 183 = .ok (.aload_n 0, 1) := dk_42 (dk_at dksX5_sieges_7 17 rfl rfl)
theorem dX5_sieges_184 : decode cX5_sieges 184 = .ok (.iload 5, 2) := dk_21 5 (dk_at dksX5_sieges_7 18 rfl rfl)
theorem dX5_sieges_186 : decode cX5_sieges 186 = .ok (.invokevirtual 437, 3) := dk_182 1 181 (dk_at dksX5_sieges_7 20 rfl rfl)
theorem dX5_sieges_189 : decode cX5_sieges 189 = .ok (.ifCond .eq 19, 3) := dk_153 0 19 (dk_at dksX5_sieges_8 0 rfl rfl)
theorem dX5_sieges_192 : decode cX5_sieges 192 = .ok (.aload_n 0, 1) := dk_42 (dk_at dksX5_sieges_8 3 rfl rfl)
theorem dX5_sieges_193 : decode cX5_sieges 193 = .ok (.iload 6, 2) := dk_21 6 (dk_at dksX5_sieges_8 4 rfl rfl)
theorem dX5_sieges_195 : decode cX5_sieges 195 = .ok (.iload 5, 2) := dk_21 5 (dk_at dksX5_sieges_8 6 rfl rfl)
theorem dX5_sieges_197 : decode cX5_sieges 197 = .ok (.invokevirtual 440, 3) := dk_182 1 184 (dk_at dksX5_sieges_8 8 rfl rfl)
theorem dX5_sieges_200 : decode cX5_sieges 200 = .ok (.iconst 1, 1) := dk_4 (dk_at dksX5_sieges_8 11 rfl rfl)
theorem dX5_sieges_201 : decode cX5_sieges 201 = .ok (.if_icmp .ne 7, 3) := dk_160 0 7 (dk_at dksX5_sieges_8 12 rfl rfl)
theorem dX5_sieges_204 : decode cX5_sieges 204 = .ok (.iconst 1, 1) := dk_4 (dk_at dksX5_sieges_8 15 rfl rfl)
theorem dX5_sieges_205 : decode cX5_sieges 205 = .ok (.goto 4, 3) := dk_167 0 4 (dk_at dksX5_sieges_8 16 rfl rfl)
theorem dX5_sieges_208 : decode cX5_sieges 208 = .ok (.iconst 0, 1) := dk_3 (dk_at dksX5_sieges_8 19 rfl rfl)
theorem dX5_sieges_209 : decode cX5_sieges 209 = .ok (.iadd, 1) := dk_96 (dk_at dksX5_sieges_8 20 rfl rfl)
theorem dX5_sieges_210 : decode cX5_sieges 210 = .ok (.istore_n 3, 1) := dk_62 (dk_at dksX5_sieges_8 21 rfl rfl)
theorem dX5_sieges_211 : decode cX5_sieges 211 = .ok (.iinc 4 1, 3) := dk_132 4 1 (dk_at dksX5_sieges_9 0 rfl rfl)
theorem dX5_sieges_214 : decode cX5_sieges 214 = .ok (.goto (-146), 3) := dk_167 255 110 (dk_at dksX5_sieges_9 3 rfl rfl)
theorem dX5_sieges_217 : decode cX5_sieges 217 = .ok (.aload_n 0, 1) := dk_42 (dk_at dksX5_sieges_9 6 rfl rfl)
theorem dX5_sieges_218 : decode cX5_sieges 218 = .ok (.aload_n 0, 1) := dk_42 (dk_at dksX5_sieges_9 7 rfl rfl)
theorem dX5_sieges_219 : decode cX5_sieges 219 = .ok (.getfield 13, 3) := dk_180 0 13 (dk_at dksX5_sieges_9 8 rfl rfl)
theorem dX5_sieges_222 : decode cX5_sieges 222 = .ok (.iconst 0, 1) := dk_3 (dk_at dksX5_sieges_9 11 rfl rfl)
theorem dX5_sieges_223 : decode cX5_sieges 223 = .ok (.iaload, 1) := dk_46 (dk_at dksX5_sieges_9 12 rfl rfl)
theorem dX5_sieges_224 : decode cX5_sieges 224 = .ok (.putfield 139, 3) := dk_181 0 139 (dk_at dksX5_sieges_9 13 rfl rfl)
theorem dX5_sieges_227 : decode cX5_sieges 227 = .ok (.iconst 0, 1) := dk_3 (dk_at dksX5_sieges_9 16 rfl rfl)
theorem dX5_sieges_228 : decode cX5_sieges 228 = .ok (.istore 4, 2) := dk_54 4 (dk_at dksX5_sieges_9 17 rfl rfl)
theorem dX5_sieges_230 : decode cX5_sieges 230 = .ok (.iload 4, 2) := dk_21 4 (dk_at dksX5_sieges_9 19 rfl rfl)
theorem dX5_sieges_232 : decode cX5_sieges 232 = .ok (.aload_n 0, 1) := dk_42 (dk_at dksX5_sieges_9 21 rfl rfl)
theorem dX5_sieges_233 : decode cX5_sieges 233 = .ok (.getfield 139, 3) := dk_180 0 139 (dk_at dksX5_sieges_10 0 rfl rfl)
theorem dX5_sieges_236 : decode cX5_sieges 236 = .ok (.if_icmp .ge 70, 3) := dk_162 0 70 (dk_at dksX5_sieges_10 3 rfl rfl)
theorem dX5_sieges_239 : decode cX5_sieges 239 = .ok (.aload_n 0, 1) := dk_42 (dk_at dksX5_sieges_10 6 rfl rfl)
theorem dX5_sieges_240 : decode cX5_sieges 240 = .ok (.getfield 136, 3) := dk_180 0 136 (dk_at dksX5_sieges_10 7 rfl rfl)
theorem dX5_sieges_243 : decode cX5_sieges 243 = .ok (.iconst 3, 1) := dk_6 (dk_at dksX5_sieges_10 10 rfl rfl)
theorem dX5_sieges_244 : decode cX5_sieges 244 = .ok (.iload 4, 2) := dk_21 4 (dk_at dksX5_sieges_10 11 rfl rfl)
theorem dX5_sieges_246 : decode cX5_sieges 246 = .ok (.imul, 1) := dk_104 (dk_at dksX5_sieges_10 13 rfl rfl)
theorem dX5_sieges_247 : decode cX5_sieges 247 = .ok (.aload_n 0, 1) := dk_42 (dk_at dksX5_sieges_10 14 rfl rfl)
theorem dX5_sieges_248 : decode cX5_sieges 248 = .ok (.getfield 13, 3) := dk_180 0 13 (dk_at dksX5_sieges_10 15 rfl rfl)
theorem dX5_sieges_251 : decode cX5_sieges 251 = .ok (.bipush 13, 2) := dk_16 13 (dk_at dksX5_sieges_10 18 rfl rfl)
theorem dX5_sieges_253 : decode cX5_sieges 253 = .ok (.iload 4, 2) := dk_21 4 (dk_at dksX5_sieges_10 20 rfl rfl)
theorem dX5_sieges_255 : decode cX5_sieges 255 = .ok (.iadd, 1) := dk_96 (dk_at dksX5_sieges_10 22 rfl rfl)
theorem dX5_sieges_256 : decode cX5_sieges 256 = .ok (.iaload, 1) := dk_46 (dk_at dksX5_sieges_10 23 rfl rfl)
theorem dX5_sieges_257 : decode cX5_sieges 257 = .ok (.iastore, 1) := dk_79 (dk_at dksX5_sieges_11 0 rfl rfl)
theorem dX5_sieges_258 : decode cX5_sieges 258 = .ok (.aload_n 0, 1) := dk_42 (dk_at dksX5_sieges_11 1 rfl rfl)
theorem dX5_sieges_259 : decode cX5_sieges 259 = .ok (.getfield 136, 3) := dk_180 0 136 (dk_at dksX5_sieges_11 2 rfl rfl)
theorem dX5_sieges_262 : decode cX5_sieges 262 = .ok (.iconst 3, 1) := dk_6 (dk_at dksX5_sieges_11 5 rfl rfl)
theorem dX5_sieges_263 : decode cX5_sieges 263 = .ok (.iload 4, 2) := dk_21 4 (dk_at dksX5_sieges_11 6 rfl rfl)
theorem dX5_sieges_265 : decode cX5_sieges 265 = .ok (.imul, 1) := dk_104 (dk_at dksX5_sieges_11 8 rfl rfl)
theorem dX5_sieges_266 : decode cX5_sieges 266 = .ok (.iconst 1, 1) := dk_4 (dk_at dksX5_sieges_11 9 rfl rfl)
theorem dX5_sieges_267 : decode cX5_sieges 267 = .ok (.iadd, 1) := dk_96 (dk_at dksX5_sieges_11 10 rfl rfl)
theorem dX5_sieges_268 : decode cX5_sieges 268 = .ok (.aload_n 0, 1) := dk_42 (dk_at dksX5_sieges_11 11 rfl rfl)
theorem dX5_sieges_269 : decode cX5_sieges 269 = .ok (.getfield 13, 3) := dk_180 0 13 (dk_at dksX5_sieges_11 12 rfl rfl)
theorem dX5_sieges_272 : decode cX5_sieges 272 = .ok (.bipush 25, 2) := dk_16 25 (dk_at dksX5_sieges_11 15 rfl rfl)
theorem dX5_sieges_274 : decode cX5_sieges 274 = .ok (.iload 4, 2) := dk_21 4 (dk_at dksX5_sieges_11 17 rfl rfl)
theorem dX5_sieges_276 : decode cX5_sieges 276 = .ok (.iadd, 1) := dk_96 (dk_at dksX5_sieges_11 19 rfl rfl)
theorem dX5_sieges_277 : decode cX5_sieges 277 = .ok (.iaload, 1) := dk_46 (dk_at dksX5_sieges_11 20 rfl rfl)
theorem dX5_sieges_278 : decode cX5_sieges 278 = .ok (.iastore, 1) := dk_79 (dk_at dksX5_sieges_11 21 rfl rfl)
theorem dX5_sieges_279 : decode cX5_sieges 279 = .ok (.aload_n 0, 1) := dk_42 (dk_at dksX5_sieges_11 22 rfl rfl)
theorem dX5_sieges_280 : decode cX5_sieges 280 = .ok (.getfield 136, 3) := dk_180 0 136 (dk_at dksX5_sieges_12 0 rfl rfl)
theorem dX5_sieges_283 : decode cX5_sieges 283 = .ok (.iconst 3, 1) := dk_6 (dk_at dksX5_sieges_12 3 rfl rfl)
theorem dX5_sieges_284 : decode cX5_sieges 284 = .ok (.iload 4, 2) := dk_21 4 (dk_at dksX5_sieges_12 4 rfl rfl)
theorem dX5_sieges_286 : decode cX5_sieges 286 = .ok (.imul, 1) := dk_104 (dk_at dksX5_sieges_12 6 rfl rfl)
theorem dX5_sieges_287 : decode cX5_sieges 287 = .ok (.iconst 2, 1) := dk_5 (dk_at dksX5_sieges_12 7 rfl rfl)
theorem dX5_sieges_288 : decode cX5_sieges 288 = .ok (.iadd, 1) := dk_96 (dk_at dksX5_sieges_12 8 rfl rfl)
theorem dX5_sieges_289 : decode cX5_sieges 289 = .ok (.aload_n 0, 1) := dk_42 (dk_at dksX5_sieges_12 9 rfl rfl)
theorem dX5_sieges_290 : decode cX5_sieges 290 = .ok (.getfield 13, 3) := dk_180 0 13 (dk_at dksX5_sieges_12 10 rfl rfl)
theorem dX5_sieges_293 : decode cX5_sieges 293 = .ok (.bipush 19, 2) := dk_16 19 (dk_at dksX5_sieges_12 13 rfl rfl)
theorem dX5_sieges_295 : decode cX5_sieges 295 = .ok (.iload 4, 2) := dk_21 4 (dk_at dksX5_sieges_12 15 rfl rfl)
theorem dX5_sieges_297 : decode cX5_sieges 297 = .ok (.iadd, 1) := dk_96 (dk_at dksX5_sieges_12 17 rfl rfl)
theorem dX5_sieges_298 : decode cX5_sieges 298 = .ok (.iaload, 1) := dk_46 (dk_at dksX5_sieges_12 18 rfl rfl)
theorem dX5_sieges_299 : decode cX5_sieges 299 = .ok (.iastore, 1) := dk_79 (dk_at dksX5_sieges_12 19 rfl rfl)
theorem dX5_sieges_300 : decode cX5_sieges 300 = .ok (.iinc 4 1, 3) := dk_132 4 1 (dk_at dksX5_sieges_12 20 rfl rfl)
theorem dX5_sieges_303 : decode cX5_sieges 303 = .ok (.goto (-73), 3) := dk_167 255 183 (dk_at dksX5_sieges_13 0 rfl rfl)
theorem dX5_sieges_306 : decode cX5_sieges 306 = .ok (.iconst 0, 1) := dk_3 (dk_at dksX5_sieges_13 3 rfl rfl)
theorem dX5_sieges_307 : decode cX5_sieges 307 = .ok (.istore 4, 2) := dk_54 4 (dk_at dksX5_sieges_13 4 rfl rfl)
theorem dX5_sieges_309 : decode cX5_sieges 309 = .ok (.iload 4, 2) := dk_21 4 (dk_at dksX5_sieges_13 6 rfl rfl)
theorem dX5_sieges_311 : decode cX5_sieges 311 = .ok (.iconst 4, 1) := dk_7 (dk_at dksX5_sieges_13 8 rfl rfl)
theorem dX5_sieges_312 : decode cX5_sieges 312 = .ok (.if_icmp .ge 29, 3) := dk_162 0 29 (dk_at dksX5_sieges_13 9 rfl rfl)
theorem dX5_sieges_315 : decode cX5_sieges 315 = .ok (.aload_n 0, 1) := dk_42 (dk_at dksX5_sieges_13 12 rfl rfl)
theorem dX5_sieges_316 : decode cX5_sieges 316 = .ok (.getfield 136, 3) := dk_180 0 136 (dk_at dksX5_sieges_13 13 rfl rfl)
theorem dX5_sieges_319 : decode cX5_sieges 319 = .ok (.bipush 18, 2) := dk_16 18 (dk_at dksX5_sieges_13 16 rfl rfl)
theorem dX5_sieges_321 : decode cX5_sieges 321 = .ok (.iload 4, 2) := dk_21 4 (dk_at dksX5_sieges_13 18 rfl rfl)
theorem dX5_sieges_323 : decode cX5_sieges 323 = .ok (.iadd, 1) := dk_96 (dk_at dksX5_sieges_13 20 rfl rfl)
theorem dX5_sieges_324 : decode cX5_sieges 324 = .ok (.aload_n 0, 1) := dk_42 (dk_at dksX5_sieges_13 21 rfl rfl)
theorem dX5_sieges_325 : decode cX5_sieges 325 = .ok (.getfield 13, 3) := dk_180 0 13 (dk_at dksX5_sieges_14 0 rfl rfl)
theorem dX5_sieges_328 : decode cX5_sieges 328 = .ok (.bipush 9, 2) := dk_16 9 (dk_at dksX5_sieges_14 3 rfl rfl)
theorem dX5_sieges_330 : decode cX5_sieges 330 = .ok (.iload 4, 2) := dk_21 4 (dk_at dksX5_sieges_14 5 rfl rfl)
theorem dX5_sieges_332 : decode cX5_sieges 332 = .ok (.iadd, 1) := dk_96 (dk_at dksX5_sieges_14 7 rfl rfl)
theorem dX5_sieges_333 : decode cX5_sieges 333 = .ok (.iaload, 1) := dk_46 (dk_at dksX5_sieges_14 8 rfl rfl)
theorem dX5_sieges_334 : decode cX5_sieges 334 = .ok (.iastore, 1) := dk_79 (dk_at dksX5_sieges_14 9 rfl rfl)
theorem dX5_sieges_335 : decode cX5_sieges 335 = .ok (.iinc 4 1, 3) := dk_132 4 1 (dk_at dksX5_sieges_14 10 rfl rfl)
theorem dX5_sieges_338 : decode cX5_sieges 338 = .ok (.goto (-29), 3) := dk_167 255 227 (dk_at dksX5_sieges_14 13 rfl rfl)
theorem dX5_sieges_341 : decode cX5_sieges 341 = .ok (.aload_n 0, 1) := dk_42 (dk_at dksX5_sieges_14 16 rfl rfl)
theorem dX5_sieges_342 : decode cX5_sieges 342 = .ok (.bipush 16, 2) := dk_16 16 (dk_at dksX5_sieges_14 17 rfl rfl)
theorem dX5_sieges_344 : decode cX5_sieges 344 = .ok (.invokevirtual 159, 3) := dk_182 0 159 (dk_at dksX5_sieges_14 19 rfl rfl)
theorem dX5_sieges_347 : decode cX5_sieges 347 = .ok (.aload_n 0, 1) := dk_42 (dk_at dksX5_sieges_14 22 rfl rfl)
theorem dX5_sieges_348 : decode cX5_sieges 348 = .ok (.iload_n 3, 1) := dk_29 (dk_at dksX5_sieges_14 23 rfl rfl)
theorem dX5_sieges_349 : decode cX5_sieges 349 = .ok (.invokevirtual 155, 3) := dk_182 0 155 (dk_at dksX5_sieges_15 0 rfl rfl)
theorem dX5_sieges_352 : decode cX5_sieges 352 = .ok (.ireturn, 1) := dk_172 (dk_at dksX5_sieges_15 3 rfl rfl)
abbrev cX5_draw : ByteArray := prog_22_method_111_code
def yX5_draw : MethodName := ⟨RX5, "draw", "(I)I"⟩
def dkwX5_draw_1 : List UInt8 := [27, 133, 113, 136, 172]
abbrev dktX5_draw_1 : List UInt8 := dkwX5_draw_1 ++ []
def dkwX5_draw_0 : List UInt8 := [42, 42, 180, 2, 5, 20, 2, 8, 105, 20, 2, 10, 97, 20, 2, 12, 113, 181, 2, 5, 42, 180, 2, 5]
abbrev dktX5_draw_0 : List UInt8 := dkwX5_draw_0 ++ dktX5_draw_1
theorem dksX5_draw_0 : cX5_draw.data.toList.drop 0 = dktX5_draw_0 := by decide +kernel
theorem dksX5_draw_1 : cX5_draw.data.toList.drop 24 = dktX5_draw_1 := dk_seg dksX5_draw_0 24 rfl rfl
theorem dX5_draw_0 : decode cX5_draw 0 = .ok (.aload_n 0, 1) := dk_42 (dk_at dksX5_draw_0 0 rfl rfl)
theorem dX5_draw_1 : decode cX5_draw 1 = .ok (.aload_n 0, 1) := dk_42 (dk_at dksX5_draw_0 1 rfl rfl)
theorem dX5_draw_2 : decode cX5_draw 2 = .ok (.getfield 517, 3) := dk_180 2 5 (dk_at dksX5_draw_0 2 rfl rfl)
theorem dX5_draw_5 : decode cX5_draw 5 = .ok (.ldc2_w 520, 3) := dk_20 2 8 (dk_at dksX5_draw_0 5 rfl rfl)
theorem dX5_draw_8 : decode cX5_draw 8 = .ok (.lmul, 1) := dk_105 (dk_at dksX5_draw_0 8 rfl rfl)
theorem dX5_draw_9 : decode cX5_draw 9 = .ok (.ldc2_w 522, 3) := dk_20 2 10 (dk_at dksX5_draw_0 9 rfl rfl)
theorem dX5_draw_12 : decode cX5_draw 12 = .ok (.ladd, 1) := dk_97 (dk_at dksX5_draw_0 12 rfl rfl)
theorem dX5_draw_13 : decode cX5_draw 13 = .ok (.ldc2_w 524, 3) := dk_20 2 12 (dk_at dksX5_draw_0 13 rfl rfl)
theorem dX5_draw_16 : decode cX5_draw 16 = .ok (.lrem, 1) := dk_113 (dk_at dksX5_draw_0 16 rfl rfl)
theorem dX5_draw_17 : decode cX5_draw 17 = .ok (.putfield 517, 3) := dk_181 2 5 (dk_at dksX5_draw_0 17 rfl rfl)
theorem dX5_draw_20 : decode cX5_draw 20 = .ok (.aload_n 0, 1) := dk_42 (dk_at dksX5_draw_0 20 rfl rfl)
theorem dX5_draw_21 : decode cX5_draw 21 = .ok (.getfield 517, 3) := dk_180 2 5 (dk_at dksX5_draw_0 21 rfl rfl)
theorem dX5_draw_24 : decode cX5_draw 24 = .ok (.iload_n 1, 1) := dk_27 (dk_at dksX5_draw_1 0 rfl rfl)
theorem dX5_draw_25 : decode cX5_draw 25 = .ok (.i2l, 1) := dk_133 (dk_at dksX5_draw_1 1 rfl rfl)
theorem dX5_draw_26 : decode cX5_draw 26 = .ok (.lrem, 1) := dk_113 (dk_at dksX5_draw_1 2 rfl rfl)
theorem dX5_draw_27 : decode cX5_draw 27 = .ok (.l2i, 1) := dk_136 (dk_at dksX5_draw_1 3 rfl rfl)
theorem dX5_draw_28 : decode cX5_draw 28 = .ok (.ireturn, 1) := dk_172 (dk_at dksX5_draw_1 4 rfl rfl)
abbrev cX5_drawn : ByteArray := prog_22_method_113_code
def yX5_drawn : MethodName := ⟨RX5, "drawn", "(II)I"⟩
def dkwX5_drawn_3 : List UInt8 := [167, 0, 13, 42, 180, 0, 136, 6, 27, 104, 28, 96, 46, 172]
abbrev dktX5_drawn_3 : List UInt8 := dkwX5_drawn_3 ++ []
def dkwX5_drawn_2 : List UInt8 := [184, 0, 162, 154, 0, 5, 2, 172, 28, 6, 160, 0, 15, 42, 180, 0, 136, 16, 18, 27, 96, 46]
abbrev dktX5_drawn_2 : List UInt8 := dkwX5_drawn_2 ++ dktX5_drawn_3
def dkwX5_drawn_1 : List UInt8 := [153, 0, 30, 27, 133, 9, 28, 6, 160, 0, 9, 20, 0, 189, 167, 0, 10, 42, 180, 0, 139, 133, 10, 101]
abbrev dktX5_drawn_1 : List UInt8 := dkwX5_drawn_1 ++ dktX5_drawn_2
def dkwX5_drawn_0 : List UInt8 := [42, 3, 181, 0, 142, 42, 180, 0, 139, 2, 159, 0, 42, 28, 133, 9, 20, 0, 189, 184, 0, 162]
abbrev dktX5_drawn_0 : List UInt8 := dkwX5_drawn_0 ++ dktX5_drawn_1
theorem dksX5_drawn_0 : cX5_drawn.data.toList.drop 0 = dktX5_drawn_0 := by decide +kernel
theorem dksX5_drawn_1 : cX5_drawn.data.toList.drop 22 = dktX5_drawn_1 := dk_seg dksX5_drawn_0 22 rfl rfl
theorem dksX5_drawn_2 : cX5_drawn.data.toList.drop 46 = dktX5_drawn_2 := dk_seg dksX5_drawn_1 24 rfl rfl
theorem dksX5_drawn_3 : cX5_drawn.data.toList.drop 68 = dktX5_drawn_3 := dk_seg dksX5_drawn_2 22 rfl rfl
theorem dX5_drawn_0 : decode cX5_drawn 0 = .ok (.aload_n 0, 1) := dk_42 (dk_at dksX5_drawn_0 0 rfl rfl)
theorem dX5_drawn_1 : decode cX5_drawn 1 = .ok (.iconst 0, 1) := dk_3 (dk_at dksX5_drawn_0 1 rfl rfl)
theorem dX5_drawn_2 : decode cX5_drawn 2 = .ok (.putfield 142, 3) := dk_181 0 142 (dk_at dksX5_drawn_0 2 rfl rfl)
theorem dX5_drawn_5 : decode cX5_drawn 5 = .ok (.aload_n 0, 1) := dk_42 (dk_at dksX5_drawn_0 5 rfl rfl)
theorem dX5_drawn_6 : decode cX5_drawn 6 = .ok (.getfield 139, 3) := dk_180 0 139 (dk_at dksX5_drawn_0 6 rfl rfl)
theorem dX5_drawn_9 : decode cX5_drawn 9 = .ok (.iconst (-1), 1) := dk_2 (dk_at dksX5_drawn_0 9 rfl rfl)
theorem dX5_drawn_10 : decode cX5_drawn 10 = .ok (.if_icmp .eq 42, 3) := dk_159 0 42 (dk_at dksX5_drawn_0 10 rfl rfl)
theorem dX5_drawn_13 : decode cX5_drawn 13 = .ok (.iload_n 2, 1) := dk_28 (dk_at dksX5_drawn_0 13 rfl rfl)
theorem dX5_drawn_14 : decode cX5_drawn 14 = .ok (.i2l, 1) := dk_133 (dk_at dksX5_drawn_0 14 rfl rfl)
theorem dX5_drawn_15 : decode cX5_drawn 15 = .ok (.lconst 0, 1) := dk_9 (dk_at dksX5_drawn_0 15 rfl rfl)
theorem dX5_drawn_16 : decode cX5_drawn 16 = .ok (.ldc2_w 189, 3) := dk_20 0 189 (dk_at dksX5_drawn_0 16 rfl rfl)
theorem dX5_drawn_19 : decode cX5_drawn 19 = .ok (.invokestatic 162, 3) := dk_184 0 162 (dk_at dksX5_drawn_0 19 rfl rfl)
theorem dX5_drawn_22 : decode cX5_drawn 22 = .ok (.ifCond .eq 30, 3) := dk_153 0 30 (dk_at dksX5_drawn_1 0 rfl rfl)
theorem dX5_drawn_25 : decode cX5_drawn 25 = .ok (.iload_n 1, 1) := dk_27 (dk_at dksX5_drawn_1 3 rfl rfl)
theorem dX5_drawn_26 : decode cX5_drawn 26 = .ok (.i2l, 1) := dk_133 (dk_at dksX5_drawn_1 4 rfl rfl)
theorem dX5_drawn_27 : decode cX5_drawn 27 = .ok (.lconst 0, 1) := dk_9 (dk_at dksX5_drawn_1 5 rfl rfl)
theorem dX5_drawn_28 : decode cX5_drawn 28 = .ok (.iload_n 2, 1) := dk_28 (dk_at dksX5_drawn_1 6 rfl rfl)
theorem dX5_drawn_29 : decode cX5_drawn 29 = .ok (.iconst 3, 1) := dk_6 (dk_at dksX5_drawn_1 7 rfl rfl)
theorem dX5_drawn_30 : decode cX5_drawn 30 = .ok (.if_icmp .ne 9, 3) := dk_160 0 9 (dk_at dksX5_drawn_1 8 rfl rfl)
theorem dX5_drawn_33 : decode cX5_drawn 33 = .ok (.ldc2_w 189, 3) := dk_20 0 189 (dk_at dksX5_drawn_1 11 rfl rfl)
theorem dX5_drawn_36 : decode cX5_drawn 36 = .ok (.goto 10, 3) := dk_167 0 10 (dk_at dksX5_drawn_1 14 rfl rfl)
theorem dX5_drawn_39 : decode cX5_drawn 39 = .ok (.aload_n 0, 1) := dk_42 (dk_at dksX5_drawn_1 17 rfl rfl)
theorem dX5_drawn_40 : decode cX5_drawn 40 = .ok (.getfield 139, 3) := dk_180 0 139 (dk_at dksX5_drawn_1 18 rfl rfl)
theorem dX5_drawn_43 : decode cX5_drawn 43 = .ok (.i2l, 1) := dk_133 (dk_at dksX5_drawn_1 21 rfl rfl)
theorem dX5_drawn_44 : decode cX5_drawn 44 = .ok (.lconst 1, 1) := dk_10 (dk_at dksX5_drawn_1 22 rfl rfl)
theorem dX5_drawn_45 : decode cX5_drawn 45 = .ok (.lsub, 1) := dk_101 (dk_at dksX5_drawn_1 23 rfl rfl)
theorem dX5_drawn_46 : decode cX5_drawn 46 = .ok (.invokestatic 162, 3) := dk_184 0 162 (dk_at dksX5_drawn_2 0 rfl rfl)
theorem dX5_drawn_49 : decode cX5_drawn 49 = .ok (.ifCond .ne 5, 3) := dk_154 0 5 (dk_at dksX5_drawn_2 3 rfl rfl)
theorem dX5_drawn_52 : decode cX5_drawn 52 = .ok (.iconst (-1), 1) := dk_2 (dk_at dksX5_drawn_2 6 rfl rfl)
theorem dX5_drawn_53 : decode cX5_drawn 53 = .ok (.ireturn, 1) := dk_172 (dk_at dksX5_drawn_2 7 rfl rfl)
theorem dX5_drawn_54 : decode cX5_drawn 54 = .ok (.iload_n 2, 1) := dk_28 (dk_at dksX5_drawn_2 8 rfl rfl)
theorem dX5_drawn_55 : decode cX5_drawn 55 = .ok (.iconst 3, 1) := dk_6 (dk_at dksX5_drawn_2 9 rfl rfl)
theorem dX5_drawn_56 : decode cX5_drawn 56 = .ok (.if_icmp .ne 15, 3) := dk_160 0 15 (dk_at dksX5_drawn_2 10 rfl rfl)
theorem dX5_drawn_59 : decode cX5_drawn 59 = .ok (.aload_n 0, 1) := dk_42 (dk_at dksX5_drawn_2 13 rfl rfl)
theorem dX5_drawn_60 : decode cX5_drawn 60 = .ok (.getfield 136, 3) := dk_180 0 136 (dk_at dksX5_drawn_2 14 rfl rfl)
theorem dX5_drawn_63 : decode cX5_drawn 63 = .ok (.bipush 18, 2) := dk_16 18 (dk_at dksX5_drawn_2 17 rfl rfl)
theorem dX5_drawn_65 : decode cX5_drawn 65 = .ok (.iload_n 1, 1) := dk_27 (dk_at dksX5_drawn_2 19 rfl rfl)
theorem dX5_drawn_66 : decode cX5_drawn 66 = .ok (.iadd, 1) := dk_96 (dk_at dksX5_drawn_2 20 rfl rfl)
theorem dX5_drawn_67 : decode cX5_drawn 67 = .ok (.iaload, 1) := dk_46 (dk_at dksX5_drawn_2 21 rfl rfl)
theorem dX5_drawn_68 : decode cX5_drawn 68 = .ok (.goto 13, 3) := dk_167 0 13 (dk_at dksX5_drawn_3 0 rfl rfl)
theorem dX5_drawn_71 : decode cX5_drawn 71 = .ok (.aload_n 0, 1) := dk_42 (dk_at dksX5_drawn_3 3 rfl rfl)
theorem dX5_drawn_72 : decode cX5_drawn 72 = .ok (.getfield 136, 3) := dk_180 0 136 (dk_at dksX5_drawn_3 4 rfl rfl)
theorem dX5_drawn_75 : decode cX5_drawn 75 = .ok (.iconst 3, 1) := dk_6 (dk_at dksX5_drawn_3 7 rfl rfl)
theorem dX5_drawn_76 : decode cX5_drawn 76 = .ok (.iload_n 1, 1) := dk_27 (dk_at dksX5_drawn_3 8 rfl rfl)
theorem dX5_drawn_77 : decode cX5_drawn 77 = .ok (.imul, 1) := dk_104 (dk_at dksX5_drawn_3 9 rfl rfl)
theorem dX5_drawn_78 : decode cX5_drawn 78 = .ok (.iload_n 2, 1) := dk_28 (dk_at dksX5_drawn_3 10 rfl rfl)
theorem dX5_drawn_79 : decode cX5_drawn 79 = .ok (.iadd, 1) := dk_96 (dk_at dksX5_drawn_3 11 rfl rfl)
theorem dX5_drawn_80 : decode cX5_drawn 80 = .ok (.iaload, 1) := dk_46 (dk_at dksX5_drawn_3 12 rfl rfl)
theorem dX5_drawn_81 : decode cX5_drawn 81 = .ok (.ireturn, 1) := dk_172 (dk_at dksX5_drawn_3 13 rfl rfl)
abbrev cX5_count : ByteArray := prog_22_method_115_code
def yX5_count : MethodName := ⟨RX5, "count", "(I)I"⟩
def dkwX5_count_8 : List UInt8 := [27, 96, 16, 17, 100, 46, 167, 0, 4, 2, 172]
abbrev dktX5_count_8 : List UInt8 := dkwX5_count_8 ++ []
def dkwX5_count_7 : List UInt8 := [46, 167, 0, 33, 27, 133, 20, 2, 26, 20, 1, 17, 184, 0, 162, 153, 0, 18, 42, 180, 0, 13, 16, 9]
abbrev dktX5_count_7 : List UInt8 := dkwX5_count_7 ++ dktX5_count_8
def dkwX5_count_6 : List UInt8 := [133, 20, 2, 22, 20, 2, 24, 184, 0, 162, 153, 0, 18, 42, 180, 0, 13, 16, 6, 27, 96, 16, 14, 100]
abbrev dktX5_count_6 : List UInt8 := dkwX5_count_6 ++ dktX5_count_7
def dkwX5_count_5 : List UInt8 := [172, 42, 180, 0, 7, 8, 46, 172, 42, 180, 0, 7, 16, 6, 46, 172, 42, 180, 0, 13, 8, 46, 172, 27]
abbrev dktX5_count_5 : List UInt8 := dkwX5_count_5 ++ dktX5_count_6
def dkwX5_count_4 : List UInt8 := [180, 0, 213, 172, 42, 180, 0, 7, 4, 46, 172, 42, 180, 0, 7, 5, 46, 172, 42, 180, 0, 7, 6, 46]
abbrev dktX5_count_4 : List UInt8 := dkwX5_count_4 ++ dktX5_count_5
def dkwX5_count_3 : List UInt8 := [46, 172, 42, 180, 0, 13, 6, 46, 172, 42, 180, 0, 13, 7, 46, 172, 42, 180, 0, 148, 172, 42]
abbrev dktX5_count_3 : List UInt8 := dkwX5_count_3 ++ dktX5_count_4
def dkwX5_count_2 : List UInt8 := [42, 180, 0, 13, 3, 46, 172, 42, 182, 2, 19, 172, 42, 180, 0, 13, 4, 46, 172, 42, 180, 0, 13, 5]
abbrev dktX5_count_2 : List UInt8 := dkwX5_count_2 ++ dktX5_count_3
def dkwX5_count_1 : List UInt8 := [170, 0, 0, 0, 0, 163, 0, 0, 0, 0, 0, 0, 0, 13, 0, 0, 0, 70, 0, 0, 0, 77, 0, 0, 0, 82, 0, 0, 0, 89, 0, 0, 0, 96, 0, 0, 0, 103, 0, 0, 0, 110, 0, 0, 0, 115, 0, 0, 0, 120, 0, 0, 0, 127, 0, 0, 0, 134, 0, 0, 0, 141, 0, 0, 0, 148, 0, 0, 0, 156]
abbrev dktX5_count_1 : List UInt8 := dkwX5_count_1 ++ dktX5_count_2
def dkwX5_count_0 : List UInt8 := [42, 3, 181, 0, 142, 27]
abbrev dktX5_count_0 : List UInt8 := dkwX5_count_0 ++ dktX5_count_1
theorem dksX5_count_0 : cX5_count.data.toList.drop 0 = dktX5_count_0 := by decide +kernel
theorem dksX5_count_1 : cX5_count.data.toList.drop 6 = dktX5_count_1 := dk_seg dksX5_count_0 6 rfl rfl
theorem dksX5_count_2 : cX5_count.data.toList.drop 76 = dktX5_count_2 := dk_seg dksX5_count_1 70 rfl rfl
theorem dksX5_count_3 : cX5_count.data.toList.drop 100 = dktX5_count_3 := dk_seg dksX5_count_2 24 rfl rfl
theorem dksX5_count_4 : cX5_count.data.toList.drop 122 = dktX5_count_4 := dk_seg dksX5_count_3 22 rfl rfl
theorem dksX5_count_5 : cX5_count.data.toList.drop 146 = dktX5_count_5 := dk_seg dksX5_count_4 24 rfl rfl
theorem dksX5_count_6 : cX5_count.data.toList.drop 170 = dktX5_count_6 := dk_seg dksX5_count_5 24 rfl rfl
theorem dksX5_count_7 : cX5_count.data.toList.drop 194 = dktX5_count_7 := dk_seg dksX5_count_6 24 rfl rfl
theorem dksX5_count_8 : cX5_count.data.toList.drop 218 = dktX5_count_8 := dk_seg dksX5_count_7 24 rfl rfl
theorem dX5_count_0 : decode cX5_count 0 = .ok (.aload_n 0, 1) := dk_42 (dk_at dksX5_count_0 0 rfl rfl)
theorem dX5_count_1 : decode cX5_count 1 = .ok (.iconst 0, 1) := dk_3 (dk_at dksX5_count_0 1 rfl rfl)
theorem dX5_count_2 : decode cX5_count 2 = .ok (.putfield 142, 3) := dk_181 0 142 (dk_at dksX5_count_0 2 rfl rfl)
theorem dX5_count_5 : decode cX5_count 5 = .ok (.iload_n 1, 1) := dk_27 (dk_at dksX5_count_0 5 rfl rfl)
theorem dX5_count_6 : decode cX5_count 6 = .ok (.tableswitch 163 0 13 #[70, 77, 82, 89, 96, 103, 110, 115, 120, 127, 134, 141, 148, 156], 70) := by decide +kernel
theorem dX5_count_76 : decode cX5_count 76 = .ok (.aload_n 0, 1) := dk_42 (dk_at dksX5_count_2 0 rfl rfl)
theorem dX5_count_77 : decode cX5_count 77 = .ok (.getfield 13, 3) := dk_180 0 13 (dk_at dksX5_count_2 1 rfl rfl)
theorem dX5_count_80 : decode cX5_count 80 = .ok (.iconst 0, 1) := dk_3 (dk_at dksX5_count_2 4 rfl rfl)
theorem dX5_count_81 : decode cX5_count 81 = .ok (.iaload, 1) := dk_46 (dk_at dksX5_count_2 5 rfl rfl)
theorem dX5_count_82 : decode cX5_count 82 = .ok (.ireturn, 1) := dk_172 (dk_at dksX5_count_2 6 rfl rfl)
theorem dX5_count_83 : decode cX5_count 83 = .ok (.aload_n 0, 1) := dk_42 (dk_at dksX5_count_2 7 rfl rfl)
theorem dX5_count_84 : decode cX5_count 84 = .ok (.invokevirtual 531, 3) := dk_182 2 19 (dk_at dksX5_count_2 8 rfl rfl)
theorem dX5_count_87 : decode cX5_count 87 = .ok (.ireturn, 1) := dk_172 (dk_at dksX5_count_2 11 rfl rfl)
theorem dX5_count_88 : decode cX5_count 88 = .ok (.aload_n 0, 1) := dk_42 (dk_at dksX5_count_2 12 rfl rfl)
theorem dX5_count_89 : decode cX5_count 89 = .ok (.getfield 13, 3) := dk_180 0 13 (dk_at dksX5_count_2 13 rfl rfl)
theorem dX5_count_92 : decode cX5_count 92 = .ok (.iconst 1, 1) := dk_4 (dk_at dksX5_count_2 16 rfl rfl)
theorem dX5_count_93 : decode cX5_count 93 = .ok (.iaload, 1) := dk_46 (dk_at dksX5_count_2 17 rfl rfl)
theorem dX5_count_94 : decode cX5_count 94 = .ok (.ireturn, 1) := dk_172 (dk_at dksX5_count_2 18 rfl rfl)
theorem dX5_count_95 : decode cX5_count 95 = .ok (.aload_n 0, 1) := dk_42 (dk_at dksX5_count_2 19 rfl rfl)
theorem dX5_count_96 : decode cX5_count 96 = .ok (.getfield 13, 3) := dk_180 0 13 (dk_at dksX5_count_2 20 rfl rfl)
theorem dX5_count_99 : decode cX5_count 99 = .ok (.iconst 2, 1) := dk_5 (dk_at dksX5_count_2 23 rfl rfl)
theorem dX5_count_100 : decode cX5_count 100 = .ok (.iaload, 1) := dk_46 (dk_at dksX5_count_3 0 rfl rfl)
theorem dX5_count_101 : decode cX5_count 101 = .ok (.ireturn, 1) := dk_172 (dk_at dksX5_count_3 1 rfl rfl)
theorem dX5_count_102 : decode cX5_count 102 = .ok (.aload_n 0, 1) := dk_42 (dk_at dksX5_count_3 2 rfl rfl)
theorem dX5_count_103 : decode cX5_count 103 = .ok (.getfield 13, 3) := dk_180 0 13 (dk_at dksX5_count_3 3 rfl rfl)
theorem dX5_count_106 : decode cX5_count 106 = .ok (.iconst 3, 1) := dk_6 (dk_at dksX5_count_3 6 rfl rfl)
theorem dX5_count_107 : decode cX5_count 107 = .ok (.iaload, 1) := dk_46 (dk_at dksX5_count_3 7 rfl rfl)
theorem dX5_count_108 : decode cX5_count 108 = .ok (.ireturn, 1) := dk_172 (dk_at dksX5_count_3 8 rfl rfl)
theorem dX5_count_109 : decode cX5_count 109 = .ok (.aload_n 0, 1) := dk_42 (dk_at dksX5_count_3 9 rfl rfl)
theorem dX5_count_110 : decode cX5_count 110 = .ok (.getfield 13, 3) := dk_180 0 13 (dk_at dksX5_count_3 10 rfl rfl)
theorem dX5_count_113 : decode cX5_count 113 = .ok (.iconst 4, 1) := dk_7 (dk_at dksX5_count_3 13 rfl rfl)
theorem dX5_count_114 : decode cX5_count 114 = .ok (.iaload, 1) := dk_46 (dk_at dksX5_count_3 14 rfl rfl)
theorem dX5_count_115 : decode cX5_count 115 = .ok (.ireturn, 1) := dk_172 (dk_at dksX5_count_3 15 rfl rfl)
theorem dX5_count_116 : decode cX5_count 116 = .ok (.aload_n 0, 1) := dk_42 (dk_at dksX5_count_3 16 rfl rfl)
theorem dX5_count_117 : decode cX5_count 117 = .ok (.getfield 148, 3) := dk_180 0 148 (dk_at dksX5_count_3 17 rfl rfl)
theorem dX5_count_120 : decode cX5_count 120 = .ok (.ireturn, 1) := dk_172 (dk_at dksX5_count_3 20 rfl rfl)
theorem dX5_count_121 : decode cX5_count 121 = .ok (.aload_n 0, 1) := dk_42 (dk_at dksX5_count_3 21 rfl rfl)
theorem dX5_count_122 : decode cX5_count 122 = .ok (.getfield 213, 3) := dk_180 0 213 (dk_at dksX5_count_4 0 rfl rfl)
theorem dX5_count_125 : decode cX5_count 125 = .ok (.ireturn, 1) := dk_172 (dk_at dksX5_count_4 3 rfl rfl)
theorem dX5_count_126 : decode cX5_count 126 = .ok (.aload_n 0, 1) := dk_42 (dk_at dksX5_count_4 4 rfl rfl)
theorem dX5_count_127 : decode cX5_count 127 = .ok (.getfield 7, 3) := dk_180 0 7 (dk_at dksX5_count_4 5 rfl rfl)
theorem dX5_count_130 : decode cX5_count 130 = .ok (.iconst 1, 1) := dk_4 (dk_at dksX5_count_4 8 rfl rfl)
theorem dX5_count_131 : decode cX5_count 131 = .ok (.iaload, 1) := dk_46 (dk_at dksX5_count_4 9 rfl rfl)
theorem dX5_count_132 : decode cX5_count 132 = .ok (.ireturn, 1) := dk_172 (dk_at dksX5_count_4 10 rfl rfl)
theorem dX5_count_133 : decode cX5_count 133 = .ok (.aload_n 0, 1) := dk_42 (dk_at dksX5_count_4 11 rfl rfl)
theorem dX5_count_134 : decode cX5_count 134 = .ok (.getfield 7, 3) := dk_180 0 7 (dk_at dksX5_count_4 12 rfl rfl)
theorem dX5_count_137 : decode cX5_count 137 = .ok (.iconst 2, 1) := dk_5 (dk_at dksX5_count_4 15 rfl rfl)
theorem dX5_count_138 : decode cX5_count 138 = .ok (.iaload, 1) := dk_46 (dk_at dksX5_count_4 16 rfl rfl)
theorem dX5_count_139 : decode cX5_count 139 = .ok (.ireturn, 1) := dk_172 (dk_at dksX5_count_4 17 rfl rfl)
theorem dX5_count_140 : decode cX5_count 140 = .ok (.aload_n 0, 1) := dk_42 (dk_at dksX5_count_4 18 rfl rfl)
theorem dX5_count_141 : decode cX5_count 141 = .ok (.getfield 7, 3) := dk_180 0 7 (dk_at dksX5_count_4 19 rfl rfl)
theorem dX5_count_144 : decode cX5_count 144 = .ok (.iconst 3, 1) := dk_6 (dk_at dksX5_count_4 22 rfl rfl)
theorem dX5_count_145 : decode cX5_count 145 = .ok (.iaload, 1) := dk_46 (dk_at dksX5_count_4 23 rfl rfl)
theorem dX5_count_146 : decode cX5_count 146 = .ok (.ireturn, 1) := dk_172 (dk_at dksX5_count_5 0 rfl rfl)
theorem dX5_count_147 : decode cX5_count 147 = .ok (.aload_n 0, 1) := dk_42 (dk_at dksX5_count_5 1 rfl rfl)
theorem dX5_count_148 : decode cX5_count 148 = .ok (.getfield 7, 3) := dk_180 0 7 (dk_at dksX5_count_5 2 rfl rfl)
theorem dX5_count_151 : decode cX5_count 151 = .ok (.iconst 5, 1) := dk_8 (dk_at dksX5_count_5 5 rfl rfl)
theorem dX5_count_152 : decode cX5_count 152 = .ok (.iaload, 1) := dk_46 (dk_at dksX5_count_5 6 rfl rfl)
theorem dX5_count_153 : decode cX5_count 153 = .ok (.ireturn, 1) := dk_172 (dk_at dksX5_count_5 7 rfl rfl)
theorem dX5_count_154 : decode cX5_count 154 = .ok (.aload_n 0, 1) := dk_42 (dk_at dksX5_count_5 8 rfl rfl)
theorem dX5_count_155 : decode cX5_count 155 = .ok (.getfield 7, 3) := dk_180 0 7 (dk_at dksX5_count_5 9 rfl rfl)
theorem dX5_count_158 : decode cX5_count 158 = .ok (.bipush 6, 2) := dk_16 6 (dk_at dksX5_count_5 12 rfl rfl)
theorem dX5_count_160 : decode cX5_count 160 = .ok (.iaload, 1) := dk_46 (dk_at dksX5_count_5 14 rfl rfl)
theorem dX5_count_161 : decode cX5_count 161 = .ok (.ireturn, 1) := dk_172 (dk_at dksX5_count_5 15 rfl rfl)
theorem dX5_count_162 : decode cX5_count 162 = .ok (.aload_n 0, 1) := dk_42 (dk_at dksX5_count_5 16 rfl rfl)
theorem dX5_count_163 : decode cX5_count 163 = .ok (.getfield 13, 3) := dk_180 0 13 (dk_at dksX5_count_5 17 rfl rfl)
theorem dX5_count_166 : decode cX5_count 166 = .ok (.iconst 5, 1) := dk_8 (dk_at dksX5_count_5 20 rfl rfl)
theorem dX5_count_167 : decode cX5_count 167 = .ok (.iaload, 1) := dk_46 (dk_at dksX5_count_5 21 rfl rfl)
theorem dX5_count_168 : decode cX5_count 168 = .ok (.ireturn, 1) := dk_172 (dk_at dksX5_count_5 22 rfl rfl)
theorem dX5_count_169 : decode cX5_count 169 = .ok (.iload_n 1, 1) := dk_27 (dk_at dksX5_count_5 23 rfl rfl)
theorem dX5_count_170 : decode cX5_count 170 = .ok (.i2l, 1) := dk_133 (dk_at dksX5_count_6 0 rfl rfl)
theorem dX5_count_171 : decode cX5_count 171 = .ok (.ldc2_w 534, 3) := dk_20 2 22 (dk_at dksX5_count_6 1 rfl rfl)
theorem dX5_count_174 : decode cX5_count 174 = .ok (.ldc2_w 536, 3) := dk_20 2 24 (dk_at dksX5_count_6 4 rfl rfl)
theorem dX5_count_177 : decode cX5_count 177 = .ok (.invokestatic 162, 3) := dk_184 0 162 (dk_at dksX5_count_6 7 rfl rfl)
theorem dX5_count_180 : decode cX5_count 180 = .ok (.ifCond .eq 18, 3) := dk_153 0 18 (dk_at dksX5_count_6 10 rfl rfl)
theorem dX5_count_183 : decode cX5_count 183 = .ok (.aload_n 0, 1) := dk_42 (dk_at dksX5_count_6 13 rfl rfl)
theorem dX5_count_184 : decode cX5_count 184 = .ok (.getfield 13, 3) := dk_180 0 13 (dk_at dksX5_count_6 14 rfl rfl)
theorem dX5_count_187 : decode cX5_count 187 = .ok (.bipush 6, 2) := dk_16 6 (dk_at dksX5_count_6 17 rfl rfl)
theorem dX5_count_189 : decode cX5_count 189 = .ok (.iload_n 1, 1) := dk_27 (dk_at dksX5_count_6 19 rfl rfl)
theorem dX5_count_190 : decode cX5_count 190 = .ok (.iadd, 1) := dk_96 (dk_at dksX5_count_6 20 rfl rfl)
theorem dX5_count_191 : decode cX5_count 191 = .ok (.bipush 14, 2) := dk_16 14 (dk_at dksX5_count_6 21 rfl rfl)
theorem dX5_count_193 : decode cX5_count 193 = .ok (.isub, 1) := dk_100 (dk_at dksX5_count_6 23 rfl rfl)
theorem dX5_count_194 : decode cX5_count 194 = .ok (.iaload, 1) := dk_46 (dk_at dksX5_count_7 0 rfl rfl)
theorem dX5_count_195 : decode cX5_count 195 = .ok (.goto 33, 3) := dk_167 0 33 (dk_at dksX5_count_7 1 rfl rfl)
theorem dX5_count_198 : decode cX5_count 198 = .ok (.iload_n 1, 1) := dk_27 (dk_at dksX5_count_7 4 rfl rfl)
theorem dX5_count_199 : decode cX5_count 199 = .ok (.i2l, 1) := dk_133 (dk_at dksX5_count_7 5 rfl rfl)
theorem dX5_count_200 : decode cX5_count 200 = .ok (.ldc2_w 538, 3) := dk_20 2 26 (dk_at dksX5_count_7 6 rfl rfl)
theorem dX5_count_203 : decode cX5_count 203 = .ok (.ldc2_w 273, 3) := dk_20 1 17 (dk_at dksX5_count_7 9 rfl rfl)
theorem dX5_count_206 : decode cX5_count 206 = .ok (.invokestatic 162, 3) := dk_184 0 162 (dk_at dksX5_count_7 12 rfl rfl)
theorem dX5_count_209 : decode cX5_count 209 = .ok (.ifCond .eq 18, 3) := dk_153 0 18 (dk_at dksX5_count_7 15 rfl rfl)
theorem dX5_count_212 : decode cX5_count 212 = .ok (.aload_n 0, 1) := dk_42 (dk_at dksX5_count_7 18 rfl rfl)
theorem dX5_count_213 : decode cX5_count 213 = .ok (.getfield 13, 3) := dk_180 0 13 (dk_at dksX5_count_7 19 rfl rfl)
theorem dX5_count_216 : decode cX5_count 216 = .ok (.bipush 9, 2) := dk_16 9 (dk_at dksX5_count_7 22 rfl rfl)
theorem dX5_count_218 : decode cX5_count 218 = .ok (.iload_n 1, 1) := dk_27 (dk_at dksX5_count_8 0 rfl rfl)
theorem dX5_count_219 : decode cX5_count 219 = .ok (.iadd, 1) := dk_96 (dk_at dksX5_count_8 1 rfl rfl)
theorem dX5_count_220 : decode cX5_count 220 = .ok (.bipush 17, 2) := dk_16 17 (dk_at dksX5_count_8 2 rfl rfl)
theorem dX5_count_222 : decode cX5_count 222 = .ok (.isub, 1) := dk_100 (dk_at dksX5_count_8 4 rfl rfl)
theorem dX5_count_223 : decode cX5_count 223 = .ok (.iaload, 1) := dk_46 (dk_at dksX5_count_8 5 rfl rfl)
theorem dX5_count_224 : decode cX5_count 224 = .ok (.goto 4, 3) := dk_167 0 4 (dk_at dksX5_count_8 6 rfl rfl)
theorem dX5_count_227 : decode cX5_count 227 = .ok (.iconst (-1), 1) := dk_2 (dk_at dksX5_count_8 9 rfl rfl)
theorem dX5_count_228 : decode cX5_count 228 = .ok (.ireturn, 1) := dk_172 (dk_at dksX5_count_8 10 rfl rfl)
abbrev cX5_takenForts : ByteArray := prog_22_method_114_code
def yX5_takenForts : MethodName := ⟨RX5, "takenForts", "()I"⟩
def dkwX5_takenForts_1 : List UInt8 := [96, 60, 132, 2, 1, 167, 255, 231, 27, 172]
abbrev dktX5_takenForts_1 : List UInt8 := dkwX5_takenForts_1 ++ []
def dkwX5_takenForts_0 : List UInt8 := [3, 60, 3, 61, 28, 42, 180, 0, 13, 3, 46, 162, 0, 21, 27, 42, 180, 0, 13, 16, 25, 28, 96, 46]
abbrev dktX5_takenForts_0 : List UInt8 := dkwX5_takenForts_0 ++ dktX5_takenForts_1
theorem dksX5_takenForts_0 : cX5_takenForts.data.toList.drop 0 = dktX5_takenForts_0 := by decide +kernel
theorem dksX5_takenForts_1 : cX5_takenForts.data.toList.drop 24 = dktX5_takenForts_1 := dk_seg dksX5_takenForts_0 24 rfl rfl
theorem dX5_takenForts_0 : decode cX5_takenForts 0 = .ok (.iconst 0, 1) := dk_3 (dk_at dksX5_takenForts_0 0 rfl rfl)
theorem dX5_takenForts_1 : decode cX5_takenForts 1 = .ok (.istore_n 1, 1) := dk_60 (dk_at dksX5_takenForts_0 1 rfl rfl)
theorem dX5_takenForts_2 : decode cX5_takenForts 2 = .ok (.iconst 0, 1) := dk_3 (dk_at dksX5_takenForts_0 2 rfl rfl)
theorem dX5_takenForts_3 : decode cX5_takenForts 3 = .ok (.istore_n 2, 1) := dk_61 (dk_at dksX5_takenForts_0 3 rfl rfl)
theorem dX5_takenForts_4 : decode cX5_takenForts 4 = .ok (.iload_n 2, 1) := dk_28 (dk_at dksX5_takenForts_0 4 rfl rfl)
theorem dX5_takenForts_5 : decode cX5_takenForts 5 = .ok (.aload_n 0, 1) := dk_42 (dk_at dksX5_takenForts_0 5 rfl rfl)
theorem dX5_takenForts_6 : decode cX5_takenForts 6 = .ok (.getfield 13, 3) := dk_180 0 13 (dk_at dksX5_takenForts_0 6 rfl rfl)
theorem dX5_takenForts_9 : decode cX5_takenForts 9 = .ok (.iconst 0, 1) := dk_3 (dk_at dksX5_takenForts_0 9 rfl rfl)
theorem dX5_takenForts_10 : decode cX5_takenForts 10 = .ok (.iaload, 1) := dk_46 (dk_at dksX5_takenForts_0 10 rfl rfl)
theorem dX5_takenForts_11 : decode cX5_takenForts 11 = .ok (.if_icmp .ge 21, 3) := dk_162 0 21 (dk_at dksX5_takenForts_0 11 rfl rfl)
theorem dX5_takenForts_14 : decode cX5_takenForts 14 = .ok (.iload_n 1, 1) := dk_27 (dk_at dksX5_takenForts_0 14 rfl rfl)
theorem dX5_takenForts_15 : decode cX5_takenForts 15 = .ok (.aload_n 0, 1) := dk_42 (dk_at dksX5_takenForts_0 15 rfl rfl)
theorem dX5_takenForts_16 : decode cX5_takenForts 16 = .ok (.getfield 13, 3) := dk_180 0 13 (dk_at dksX5_takenForts_0 16 rfl rfl)
theorem dX5_takenForts_19 : decode cX5_takenForts 19 = .ok (.bipush 25, 2) := dk_16 25 (dk_at dksX5_takenForts_0 19 rfl rfl)
theorem dX5_takenForts_21 : decode cX5_takenForts 21 = .ok (.iload_n 2, 1) := dk_28 (dk_at dksX5_takenForts_0 21 rfl rfl)
theorem dX5_takenForts_22 : decode cX5_takenForts 22 = .ok (.iadd, 1) := dk_96 (dk_at dksX5_takenForts_0 22 rfl rfl)
theorem dX5_takenForts_23 : decode cX5_takenForts 23 = .ok (.iaload, 1) := dk_46 (dk_at dksX5_takenForts_0 23 rfl rfl)
theorem dX5_takenForts_24 : decode cX5_takenForts 24 = .ok (.iadd, 1) := dk_96 (dk_at dksX5_takenForts_1 0 rfl rfl)
theorem dX5_takenForts_25 : decode cX5_takenForts 25 = .ok (.istore_n 1, 1) := dk_60 (dk_at dksX5_takenForts_1 1 rfl rfl)
theorem dX5_takenForts_26 : decode cX5_takenForts 26 = .ok (.iinc 2 1, 3) := dk_132 2 1 (dk_at dksX5_takenForts_1 2 rfl rfl)
theorem dX5_takenForts_29 : decode cX5_takenForts 29 = .ok (.goto (-25), 3) := dk_167 255 231 (dk_at dksX5_takenForts_1 5 rfl rfl)
theorem dX5_takenForts_32 : decode cX5_takenForts 32 = .ok (.iload_n 1, 1) := dk_27 (dk_at dksX5_takenForts_1 8 rfl rfl)
theorem dX5_takenForts_33 : decode cX5_takenForts 33 = .ok (.ireturn, 1) := dk_172 (dk_at dksX5_takenForts_1 9 rfl rfl)
abbrev cX5_status : ByteArray := prog_22_method_116_code
def yX5_status : MethodName := ⟨RX5, "status", "()I"⟩
def dkwX5_status_0 : List UInt8 := [42, 3, 181, 0, 142, 42, 180, 0, 145, 172]
abbrev dktX5_status_0 : List UInt8 := dkwX5_status_0 ++ []
theorem dksX5_status_0 : cX5_status.data.toList.drop 0 = dktX5_status_0 := by decide +kernel
theorem dX5_status_0 : decode cX5_status 0 = .ok (.aload_n 0, 1) := dk_42 (dk_at dksX5_status_0 0 rfl rfl)
theorem dX5_status_1 : decode cX5_status 1 = .ok (.iconst 0, 1) := dk_3 (dk_at dksX5_status_0 1 rfl rfl)
theorem dX5_status_2 : decode cX5_status 2 = .ok (.putfield 142, 3) := dk_181 0 142 (dk_at dksX5_status_0 2 rfl rfl)
theorem dX5_status_5 : decode cX5_status 5 = .ok (.aload_n 0, 1) := dk_42 (dk_at dksX5_status_0 5 rfl rfl)
theorem dX5_status_6 : decode cX5_status 6 = .ok (.getfield 145, 3) := dk_180 0 145 (dk_at dksX5_status_0 6 rfl rfl)
theorem dX5_status_9 : decode cX5_status 9 = .ok (.ireturn, 1) := dk_172 (dk_at dksX5_status_0 9 rfl rfl)
theorem q109 : (Jvm.Cond.initialized "OpenGatesModel") ∈ lw_all := lw_g (lw_at lw_m1 11 rfl) rfl
theorem q494 : (Jvm.Cond.selects "OpenGatesModel" ({ cls := "java/lang/Object", name := "getClass", desc := "()Ljava/lang/Class;" } : Jvm.MethodName) ({ cls := "java/lang/Object", name := "getClass", desc := "()Ljava/lang/Class;" } : Jvm.MethodName)) ∈ lw_all := lw_g (lw_at lw_m2 156 rfl) rfl
theorem q1451 : (Jvm.Cond.instantiable "OpenGatesModel" (53 : Nat)) ∈ lw_all := lw_g (lw_at lw_m6 153 rfl) rfl
theorem q1453 : (Jvm.Cond.instanceMethod ({ cls := "OpenGatesModel", name := "<init>", desc := "()V" } : Jvm.MethodName)) ∈ lw_all := lw_g (lw_at lw_m6 155 rfl) rfl
theorem q1454 : (Jvm.Cond.code ({ cls := "OpenGatesModel", name := "<init>", desc := "()V" } : Jvm.MethodName) prog_22_method_1_code (2 : Nat) (Option.none : Option Jvm.ClassFile.FieldType)) ∈ lw_all := lw_g (lw_at lw_m6 156 rfl) rfl
theorem q1455 : (Jvm.Cond.methodLink "OpenGatesModel" (1 : Nat) ({ cls := "java/lang/Object", name := "<init>", desc := "()V" } : Jvm.MethodName)) ∈ lw_all := lw_g (lw_at lw_m6 157 rfl) rfl
theorem q1456 : (Jvm.Cond.constantLong "OpenGatesModel" (57 : Nat) (212564 : Int64)) ∈ lw_all := lw_g (lw_at lw_m6 158 rfl) rfl
theorem q1457 : (Jvm.Cond.constantLong "OpenGatesModel" (59 : Nat) (13486 : Int64)) ∈ lw_all := lw_g (lw_at lw_m6 159 rfl) rfl
theorem q1458 : (Jvm.Cond.constantLong "OpenGatesModel" (61 : Nat) (7698827308 : Int64)) ∈ lw_all := lw_g (lw_at lw_m6 160 rfl) rfl
theorem q1459 : (Jvm.Cond.constantLong "OpenGatesModel" (63 : Nat) (12009198 : Int64)) ∈ lw_all := lw_g (lw_at lw_m6 161 rfl) rfl
theorem q1460 : (Jvm.Cond.constantLong "OpenGatesModel" (65 : Nat) (632046 : Int64)) ∈ lw_all := lw_g (lw_at lw_m6 162 rfl) rfl
theorem q1461 : (Jvm.Cond.constantLong "OpenGatesModel" (67 : Nat) (51641 : Int64)) ∈ lw_all := lw_g (lw_at lw_m6 163 rfl) rfl
theorem q1462 : (Jvm.Cond.constantLong "OpenGatesModel" (69 : Nat) (72754342 : Int64)) ∈ lw_all := lw_g (lw_at lw_m6 164 rfl) rfl
theorem q1463 : (Jvm.Cond.constantLong "OpenGatesModel" (71 : Nat) (5572 : Int64)) ∈ lw_all := lw_g (lw_at lw_m6 165 rfl) rfl
theorem q1464 : (Jvm.Cond.constantLong "OpenGatesModel" (73 : Nat) (4153 : Int64)) ∈ lw_all := lw_g (lw_at lw_m6 166 rfl) rfl
theorem q1465 : (Jvm.Cond.constantLong "OpenGatesModel" (75 : Nat) (441828 : Int64)) ∈ lw_all := lw_g (lw_at lw_m6 167 rfl) rfl
theorem q1466 : (Jvm.Cond.constantLong "OpenGatesModel" (81 : Nat) (146885 : Int64)) ∈ lw_all := lw_g (lw_at lw_m6 168 rfl) rfl
theorem q1467 : (Jvm.Cond.constantLong "OpenGatesModel" (83 : Nat) (404362868 : Int64)) ∈ lw_all := lw_g (lw_at lw_m6 169 rfl) rfl
theorem q1468 : (Jvm.Cond.constantLong "OpenGatesModel" (85 : Nat) (20201198 : Int64)) ∈ lw_all := lw_g (lw_at lw_m6 170 rfl) rfl
theorem q1469 : (Jvm.Cond.constantLong "OpenGatesModel" (87 : Nat) (198053 : Int64)) ∈ lw_all := lw_g (lw_at lw_m6 171 rfl) rfl
theorem q1470 : (Jvm.Cond.constantLong "OpenGatesModel" (92 : Nat) (21678547 : Int64)) ∈ lw_all := lw_g (lw_at lw_m6 172 rfl) rfl
theorem q1471 : (Jvm.Cond.constantLong "OpenGatesModel" (94 : Nat) (526131 : Int64)) ∈ lw_all := lw_g (lw_at lw_m6 173 rfl) rfl
theorem q1472 : (Jvm.Cond.constantLong "OpenGatesModel" (96 : Nat) (67155 : Int64)) ∈ lw_all := lw_g (lw_at lw_m6 174 rfl) rfl
theorem q1473 : (Jvm.Cond.constantLong "OpenGatesModel" (119 : Nat) (631287 : Int64)) ∈ lw_all := lw_g (lw_at lw_m6 175 rfl) rfl
theorem q1474 : (Jvm.Cond.constantLong "OpenGatesModel" (121 : Nat) (271493 : Int64)) ∈ lw_all := lw_g (lw_at lw_m6 176 rfl) rfl
theorem q1475 : (Jvm.Cond.constantLong "OpenGatesModel" (123 : Nat) (13682792 : Int64)) ∈ lw_all := lw_g (lw_at lw_m6 177 rfl) rfl
theorem q1476 : (Jvm.Cond.constantLong "OpenGatesModel" (125 : Nat) (13358 : Int64)) ∈ lw_all := lw_g (lw_at lw_m6 178 rfl) rfl
theorem q1477 : (Jvm.Cond.fieldLink "OpenGatesModel" (142 : Nat) "OpenGatesModel" "thrown" "I") ∈ lw_all := lw_g (lw_at lw_m6 179 rfl) rfl
theorem q1478 : (Jvm.Cond.fieldLink "OpenGatesModel" (145 : Nat) "OpenGatesModel" "status" "I") ∈ lw_all := lw_g (lw_at lw_m6 180 rfl) rfl
theorem q1479 : (Jvm.Cond.fieldLink "OpenGatesModel" (7 : Nat) "OpenGatesModel" "refusals" "[I") ∈ lw_all := lw_g (lw_at lw_m6 181 rfl) rfl
theorem q1480 : (Jvm.Cond.fieldLink "OpenGatesModel" (13 : Nat) "OpenGatesModel" "row" "[I") ∈ lw_all := lw_g (lw_at lw_m6 182 rfl) rfl
theorem q1481 : (Jvm.Cond.fieldLink "OpenGatesModel" (16 : Nat) "OpenGatesModel" "images" "[I") ∈ lw_all := lw_g (lw_at lw_m6 183 rfl) rfl
theorem q1482 : (Jvm.Cond.fieldLink "OpenGatesModel" (19 : Nat) "OpenGatesModel" "isKept" "[Z") ∈ lw_all := lw_g (lw_at lw_m6 184 rfl) rfl
theorem q1483 : (Jvm.Cond.fieldLink "OpenGatesModel" (23 : Nat) "OpenGatesModel" "undos" "[I") ∈ lw_all := lw_g (lw_at lw_m6 185 rfl) rfl
theorem q1484 : (Jvm.Cond.fieldLink "OpenGatesModel" (26 : Nat) "OpenGatesModel" "sorts" "[I") ∈ lw_all := lw_g (lw_at lw_m6 186 rfl) rfl
theorem q1485 : (Jvm.Cond.fieldLink "OpenGatesModel" (148 : Nat) "OpenGatesModel" "nUndo" "I") ∈ lw_all := lw_g (lw_at lw_m6 187 rfl) rfl
theorem q1486 : (Jvm.Cond.fieldLink "OpenGatesModel" (29 : Nat) "OpenGatesModel" "undosBefore" "[I") ∈ lw_all := lw_g (lw_at lw_m6 188 rfl) rfl
theorem q1487 : (Jvm.Cond.fieldLink "OpenGatesModel" (32 : Nat) "OpenGatesModel" "sortsBefore" "[I") ∈ lw_all := lw_g (lw_at lw_m6 189 rfl) rfl
theorem q1488 : (Jvm.Cond.fieldLink "OpenGatesModel" (216 : Nat) "OpenGatesModel" "brooms" "I") ∈ lw_all := lw_g (lw_at lw_m6 190 rfl) rfl
theorem q1489 : (Jvm.Cond.fieldLink "OpenGatesModel" (35 : Nat) "OpenGatesModel" "tape" "[I") ∈ lw_all := lw_g (lw_at lw_m6 191 rfl) rfl
theorem q1490 : (Jvm.Cond.fieldLink "OpenGatesModel" (213 : Nat) "OpenGatesModel" "taped" "I") ∈ lw_all := lw_g (lw_at lw_m6 192 rfl) rfl
theorem q1491 : (Jvm.Cond.fieldLink "OpenGatesModel" (232 : Nat) "OpenGatesModel" "from" "I") ∈ lw_all := lw_g (lw_at lw_m6 193 rfl) rfl
theorem q1492 : (Jvm.Cond.fieldLink "OpenGatesModel" (222 : Nat) "OpenGatesModel" "to" "I") ∈ lw_all := lw_g (lw_at lw_m6 194 rfl) rfl
theorem q1493 : (Jvm.Cond.fieldLink "OpenGatesModel" (245 : Nat) "OpenGatesModel" "sort" "I") ∈ lw_all := lw_g (lw_at lw_m6 195 rfl) rfl
theorem q1494 : (Jvm.Cond.fieldLink "OpenGatesModel" (235 : Nat) "OpenGatesModel" "worth" "J") ∈ lw_all := lw_g (lw_at lw_m6 196 rfl) rfl
theorem q1495 : (Jvm.Cond.fieldLink "OpenGatesModel" (38 : Nat) "OpenGatesModel" "fault" "I") ∈ lw_all := lw_g (lw_at lw_m6 197 rfl) rfl
theorem q1496 : (Jvm.Cond.fieldLink "OpenGatesModel" (225 : Nat) "OpenGatesModel" "bad" "Z") ∈ lw_all := lw_g (lw_at lw_m6 198 rfl) rfl
theorem q1497 : (Jvm.Cond.fieldLink "OpenGatesModel" (300 : Nat) "OpenGatesModel" "ordered" "Z") ∈ lw_all := lw_g (lw_at lw_m6 199 rfl) rfl
theorem q1498 : (Jvm.Cond.fieldLink "OpenGatesModel" (350 : Nat) "OpenGatesModel" "nClauses" "I") ∈ lw_all := lw_g (lw_at lw_m6 200 rfl) rfl
theorem q1499 : (Jvm.Cond.fieldLink "OpenGatesModel" (42 : Nat) "OpenGatesModel" "nClause" "[I") ∈ lw_all := lw_g (lw_at lw_m6 201 rfl) rfl
theorem q1500 : (Jvm.Cond.fieldLink "OpenGatesModel" (260 : Nat) "OpenGatesModel" "nCode" "I") ∈ lw_all := lw_g (lw_at lw_m6 202 rfl) rfl
theorem q1501 : (Jvm.Cond.fieldLink "OpenGatesModel" (45 : Nat) "OpenGatesModel" "nOp" "[I") ∈ lw_all := lw_g (lw_at lw_m6 203 rfl) rfl
theorem q1502 : (Jvm.Cond.fieldLink "OpenGatesModel" (48 : Nat) "OpenGatesModel" "nArg" "[I") ∈ lw_all := lw_g (lw_at lw_m6 204 rfl) rfl
theorem q1503 : (Jvm.Cond.fieldLink "OpenGatesModel" (291 : Nat) "OpenGatesModel" "nLeaves" "I") ∈ lw_all := lw_g (lw_at lw_m6 205 rfl) rfl
theorem q1504 : (Jvm.Cond.fieldLink "OpenGatesModel" (51 : Nat) "OpenGatesModel" "pile" "[I") ∈ lw_all := lw_g (lw_at lw_m6 206 rfl) rfl
theorem q1505 : (Jvm.Cond.fieldLink "OpenGatesModel" (54 : Nat) "OpenGatesModel" "pileAt" "[I") ∈ lw_all := lw_g (lw_at lw_m6 207 rfl) rfl
theorem q1506 : (Jvm.Cond.fieldLink "OpenGatesModel" (263 : Nat) "OpenGatesModel" "piled" "I") ∈ lw_all := lw_g (lw_at lw_m6 208 rfl) rfl
theorem q1507 : (Jvm.Cond.fieldLink "OpenGatesModel" (285 : Nat) "OpenGatesModel" "opened" "I") ∈ lw_all := lw_g (lw_at lw_m6 209 rfl) rfl
theorem q1508 : (Jvm.Cond.fieldLink "OpenGatesModel" (77 : Nat) "OpenGatesModel" "words" "[J") ∈ lw_all := lw_g (lw_at lw_m6 210 rfl) rfl
theorem q1509 : (Jvm.Cond.fieldLink "OpenGatesModel" (89 : Nat) "OpenGatesModel" "orderWords" "[J") ∈ lw_all := lw_g (lw_at lw_m6 211 rfl) rfl
theorem q1510 : (Jvm.Cond.fieldLink "OpenGatesModel" (98 : Nat) "OpenGatesModel" "heads" "[J") ∈ lw_all := lw_g (lw_at lw_m6 212 rfl) rfl
theorem q1511 : (Jvm.Cond.fieldLink "OpenGatesModel" (370 : Nat) "OpenGatesModel" "law" "I") ∈ lw_all := lw_g (lw_at lw_m6 213 rfl) rfl
theorem q1512 : (Jvm.Cond.fieldLink "OpenGatesModel" (101 : Nat) "OpenGatesModel" "set" "[J") ∈ lw_all := lw_g (lw_at lw_m6 214 rfl) rfl
theorem q1513 : (Jvm.Cond.fieldLink "OpenGatesModel" (104 : Nat) "OpenGatesModel" "now" "[J") ∈ lw_all := lw_g (lw_at lw_m6 215 rfl) rfl
theorem q1514 : (Jvm.Cond.fieldLink "OpenGatesModel" (107 : Nat) "OpenGatesModel" "rest" "[J") ∈ lw_all := lw_g (lw_at lw_m6 216 rfl) rfl
theorem q1515 : (Jvm.Cond.fieldLink "OpenGatesModel" (367 : Nat) "OpenGatesModel" "broken" "Z") ∈ lw_all := lw_g (lw_at lw_m6 217 rfl) rfl
theorem q1516 : (Jvm.Cond.fieldLink "OpenGatesModel" (381 : Nat) "OpenGatesModel" "value" "J") ∈ lw_all := lw_g (lw_at lw_m6 218 rfl) rfl
theorem q1517 : (Jvm.Cond.fieldLink "OpenGatesModel" (387 : Nat) "OpenGatesModel" "sum" "J") ∈ lw_all := lw_g (lw_at lw_m6 219 rfl) rfl
theorem q1518 : (Jvm.Cond.fieldLink "OpenGatesModel" (110 : Nat) "OpenGatesModel" "hours" "[I") ∈ lw_all := lw_g (lw_at lw_m6 220 rfl) rfl
theorem q1519 : (Jvm.Cond.fieldLink "OpenGatesModel" (113 : Nat) "OpenGatesModel" "most" "[I") ∈ lw_all := lw_g (lw_at lw_m6 221 rfl) rfl
theorem q1520 : (Jvm.Cond.fieldLink "OpenGatesModel" (116 : Nat) "OpenGatesModel" "alike" "[I") ∈ lw_all := lw_g (lw_at lw_m6 222 rfl) rfl
theorem q1521 : (Jvm.Cond.fieldLink "OpenGatesModel" (127 : Nat) "OpenGatesModel" "acts" "[J") ∈ lw_all := lw_g (lw_at lw_m6 223 rfl) rfl
theorem q1522 : (Jvm.Cond.fieldLink "OpenGatesModel" (130 : Nat) "OpenGatesModel" "nOrder" "[I") ∈ lw_all := lw_g (lw_at lw_m6 224 rfl) rfl
theorem q1523 : (Jvm.Cond.fieldLink "OpenGatesModel" (496 : Nat) "OpenGatesModel" "done" "I") ∈ lw_all := lw_g (lw_at lw_m6 225 rfl) rfl
theorem q1524 : (Jvm.Cond.fieldLink "OpenGatesModel" (499 : Nat) "OpenGatesModel" "latest" "I") ∈ lw_all := lw_g (lw_at lw_m6 226 rfl) rfl
theorem q1525 : (Jvm.Cond.fieldLink "OpenGatesModel" (133 : Nat) "OpenGatesModel" "stopped" "I") ∈ lw_all := lw_g (lw_at lw_m6 227 rfl) rfl
theorem q1526 : (Jvm.Cond.fieldLink "OpenGatesModel" (493 : Nat) "OpenGatesModel" "off" "Z") ∈ lw_all := lw_g (lw_at lw_m6 228 rfl) rfl
theorem q1527 : (Jvm.Cond.fieldLink "OpenGatesModel" (517 : Nat) "OpenGatesModel" "state" "J") ∈ lw_all := lw_g (lw_at lw_m6 229 rfl) rfl
theorem q1528 : (Jvm.Cond.fieldLink "OpenGatesModel" (136 : Nat) "OpenGatesModel" "drawn" "[I") ∈ lw_all := lw_g (lw_at lw_m6 230 rfl) rfl
theorem q1529 : (Jvm.Cond.fieldLink "OpenGatesModel" (139 : Nat) "OpenGatesModel" "nDrawn" "I") ∈ lw_all := lw_g (lw_at lw_m6 231 rfl) rfl
theorem q1530 : (Jvm.Cond.lays "OpenGatesModel" "OpenGatesModel" "thrown" "I") ∈ lw_all := lw_g (lw_at lw_m6 232 rfl) rfl
theorem q1531 : (Jvm.Cond.soleField "OpenGatesModel" "thrown") ∈ lw_all := lw_g (lw_at lw_m6 233 rfl) rfl
theorem q1532 : (Jvm.Cond.lays "OpenGatesModel" "OpenGatesModel" "status" "I") ∈ lw_all := lw_g (lw_at lw_m6 234 rfl) rfl
theorem q1533 : (Jvm.Cond.soleField "OpenGatesModel" "status") ∈ lw_all := lw_g (lw_at lw_m6 235 rfl) rfl
theorem q1534 : (Jvm.Cond.laysFinal "OpenGatesModel" "OpenGatesModel" "refusals" "[I") ∈ lw_all := lw_g (lw_at lw_m6 236 rfl) rfl
theorem q1535 : (Jvm.Cond.soleField "OpenGatesModel" "refusals") ∈ lw_all := lw_g (lw_at lw_m6 237 rfl) rfl
theorem q1536 : (Jvm.Cond.laysFinal "OpenGatesModel" "OpenGatesModel" "row" "[I") ∈ lw_all := lw_g (lw_at lw_m6 238 rfl) rfl
theorem q1537 : (Jvm.Cond.soleField "OpenGatesModel" "row") ∈ lw_all := lw_g (lw_at lw_m6 239 rfl) rfl
theorem q1538 : (Jvm.Cond.laysFinal "OpenGatesModel" "OpenGatesModel" "images" "[I") ∈ lw_all := lw_g (lw_at lw_m7 0 rfl) rfl
theorem q1539 : (Jvm.Cond.soleField "OpenGatesModel" "images") ∈ lw_all := lw_g (lw_at lw_m7 1 rfl) rfl
theorem q1540 : (Jvm.Cond.laysFinal "OpenGatesModel" "OpenGatesModel" "isKept" "[Z") ∈ lw_all := lw_g (lw_at lw_m7 2 rfl) rfl
theorem q1541 : (Jvm.Cond.soleField "OpenGatesModel" "isKept") ∈ lw_all := lw_g (lw_at lw_m7 3 rfl) rfl
theorem q1542 : (Jvm.Cond.laysFinal "OpenGatesModel" "OpenGatesModel" "undos" "[I") ∈ lw_all := lw_g (lw_at lw_m7 4 rfl) rfl
theorem q1543 : (Jvm.Cond.soleField "OpenGatesModel" "undos") ∈ lw_all := lw_g (lw_at lw_m7 5 rfl) rfl
theorem q1544 : (Jvm.Cond.laysFinal "OpenGatesModel" "OpenGatesModel" "sorts" "[I") ∈ lw_all := lw_g (lw_at lw_m7 6 rfl) rfl
theorem q1545 : (Jvm.Cond.soleField "OpenGatesModel" "sorts") ∈ lw_all := lw_g (lw_at lw_m7 7 rfl) rfl
theorem q1546 : (Jvm.Cond.lays "OpenGatesModel" "OpenGatesModel" "nUndo" "I") ∈ lw_all := lw_g (lw_at lw_m7 8 rfl) rfl
theorem q1547 : (Jvm.Cond.soleField "OpenGatesModel" "nUndo") ∈ lw_all := lw_g (lw_at lw_m7 9 rfl) rfl
theorem q1548 : (Jvm.Cond.laysFinal "OpenGatesModel" "OpenGatesModel" "undosBefore" "[I") ∈ lw_all := lw_g (lw_at lw_m7 10 rfl) rfl
theorem q1549 : (Jvm.Cond.soleField "OpenGatesModel" "undosBefore") ∈ lw_all := lw_g (lw_at lw_m7 11 rfl) rfl
theorem q1550 : (Jvm.Cond.laysFinal "OpenGatesModel" "OpenGatesModel" "sortsBefore" "[I") ∈ lw_all := lw_g (lw_at lw_m7 12 rfl) rfl
theorem q1551 : (Jvm.Cond.soleField "OpenGatesModel" "sortsBefore") ∈ lw_all := lw_g (lw_at lw_m7 13 rfl) rfl
theorem q1552 : (Jvm.Cond.lays "OpenGatesModel" "OpenGatesModel" "brooms" "I") ∈ lw_all := lw_g (lw_at lw_m7 14 rfl) rfl
theorem q1553 : (Jvm.Cond.soleField "OpenGatesModel" "brooms") ∈ lw_all := lw_g (lw_at lw_m7 15 rfl) rfl
theorem q1554 : (Jvm.Cond.laysFinal "OpenGatesModel" "OpenGatesModel" "tape" "[I") ∈ lw_all := lw_g (lw_at lw_m7 16 rfl) rfl
theorem q1555 : (Jvm.Cond.soleField "OpenGatesModel" "tape") ∈ lw_all := lw_g (lw_at lw_m7 17 rfl) rfl
theorem q1556 : (Jvm.Cond.lays "OpenGatesModel" "OpenGatesModel" "taped" "I") ∈ lw_all := lw_g (lw_at lw_m7 18 rfl) rfl
theorem q1557 : (Jvm.Cond.soleField "OpenGatesModel" "taped") ∈ lw_all := lw_g (lw_at lw_m7 19 rfl) rfl
theorem q1558 : (Jvm.Cond.lays "OpenGatesModel" "OpenGatesModel" "from" "I") ∈ lw_all := lw_g (lw_at lw_m7 20 rfl) rfl
theorem q1559 : (Jvm.Cond.soleField "OpenGatesModel" "from") ∈ lw_all := lw_g (lw_at lw_m7 21 rfl) rfl
theorem q1560 : (Jvm.Cond.lays "OpenGatesModel" "OpenGatesModel" "to" "I") ∈ lw_all := lw_g (lw_at lw_m7 22 rfl) rfl
theorem q1561 : (Jvm.Cond.soleField "OpenGatesModel" "to") ∈ lw_all := lw_g (lw_at lw_m7 23 rfl) rfl
theorem q1562 : (Jvm.Cond.lays "OpenGatesModel" "OpenGatesModel" "sort" "I") ∈ lw_all := lw_g (lw_at lw_m7 24 rfl) rfl
theorem q1563 : (Jvm.Cond.soleField "OpenGatesModel" "sort") ∈ lw_all := lw_g (lw_at lw_m7 25 rfl) rfl
theorem q1564 : (Jvm.Cond.lays "OpenGatesModel" "OpenGatesModel" "worth" "J") ∈ lw_all := lw_g (lw_at lw_m7 26 rfl) rfl
theorem q1565 : (Jvm.Cond.soleField "OpenGatesModel" "worth") ∈ lw_all := lw_g (lw_at lw_m7 27 rfl) rfl
theorem q1566 : (Jvm.Cond.lays "OpenGatesModel" "OpenGatesModel" "fault" "I") ∈ lw_all := lw_g (lw_at lw_m7 28 rfl) rfl
theorem q1567 : (Jvm.Cond.soleField "OpenGatesModel" "fault") ∈ lw_all := lw_g (lw_at lw_m7 29 rfl) rfl
theorem q1568 : (Jvm.Cond.lays "OpenGatesModel" "OpenGatesModel" "bad" "Z") ∈ lw_all := lw_g (lw_at lw_m7 30 rfl) rfl
theorem q1569 : (Jvm.Cond.soleField "OpenGatesModel" "bad") ∈ lw_all := lw_g (lw_at lw_m7 31 rfl) rfl
theorem q1570 : (Jvm.Cond.lays "OpenGatesModel" "OpenGatesModel" "ordered" "Z") ∈ lw_all := lw_g (lw_at lw_m7 32 rfl) rfl
theorem q1571 : (Jvm.Cond.soleField "OpenGatesModel" "ordered") ∈ lw_all := lw_g (lw_at lw_m7 33 rfl) rfl
theorem q1572 : (Jvm.Cond.lays "OpenGatesModel" "OpenGatesModel" "nClauses" "I") ∈ lw_all := lw_g (lw_at lw_m7 34 rfl) rfl
theorem q1573 : (Jvm.Cond.soleField "OpenGatesModel" "nClauses") ∈ lw_all := lw_g (lw_at lw_m7 35 rfl) rfl
theorem q1574 : (Jvm.Cond.laysFinal "OpenGatesModel" "OpenGatesModel" "nClause" "[I") ∈ lw_all := lw_g (lw_at lw_m7 36 rfl) rfl
theorem q1575 : (Jvm.Cond.soleField "OpenGatesModel" "nClause") ∈ lw_all := lw_g (lw_at lw_m7 37 rfl) rfl
theorem q1576 : (Jvm.Cond.lays "OpenGatesModel" "OpenGatesModel" "nCode" "I") ∈ lw_all := lw_g (lw_at lw_m7 38 rfl) rfl
theorem q1577 : (Jvm.Cond.soleField "OpenGatesModel" "nCode") ∈ lw_all := lw_g (lw_at lw_m7 39 rfl) rfl
theorem q1578 : (Jvm.Cond.laysFinal "OpenGatesModel" "OpenGatesModel" "nOp" "[I") ∈ lw_all := lw_g (lw_at lw_m7 40 rfl) rfl
theorem q1579 : (Jvm.Cond.soleField "OpenGatesModel" "nOp") ∈ lw_all := lw_g (lw_at lw_m7 41 rfl) rfl
theorem q1580 : (Jvm.Cond.laysFinal "OpenGatesModel" "OpenGatesModel" "nArg" "[I") ∈ lw_all := lw_g (lw_at lw_m7 42 rfl) rfl
theorem q1581 : (Jvm.Cond.soleField "OpenGatesModel" "nArg") ∈ lw_all := lw_g (lw_at lw_m7 43 rfl) rfl
theorem q1582 : (Jvm.Cond.lays "OpenGatesModel" "OpenGatesModel" "nLeaves" "I") ∈ lw_all := lw_g (lw_at lw_m7 44 rfl) rfl
theorem q1583 : (Jvm.Cond.soleField "OpenGatesModel" "nLeaves") ∈ lw_all := lw_g (lw_at lw_m7 45 rfl) rfl
theorem q1584 : (Jvm.Cond.laysFinal "OpenGatesModel" "OpenGatesModel" "pile" "[I") ∈ lw_all := lw_g (lw_at lw_m7 46 rfl) rfl
theorem q1585 : (Jvm.Cond.soleField "OpenGatesModel" "pile") ∈ lw_all := lw_g (lw_at lw_m7 47 rfl) rfl
theorem q1586 : (Jvm.Cond.laysFinal "OpenGatesModel" "OpenGatesModel" "pileAt" "[I") ∈ lw_all := lw_g (lw_at lw_m7 48 rfl) rfl
theorem q1587 : (Jvm.Cond.soleField "OpenGatesModel" "pileAt") ∈ lw_all := lw_g (lw_at lw_m7 49 rfl) rfl
theorem q1588 : (Jvm.Cond.lays "OpenGatesModel" "OpenGatesModel" "piled" "I") ∈ lw_all := lw_g (lw_at lw_m7 50 rfl) rfl
theorem q1589 : (Jvm.Cond.soleField "OpenGatesModel" "piled") ∈ lw_all := lw_g (lw_at lw_m7 51 rfl) rfl
theorem q1590 : (Jvm.Cond.lays "OpenGatesModel" "OpenGatesModel" "opened" "I") ∈ lw_all := lw_g (lw_at lw_m7 52 rfl) rfl
theorem q1591 : (Jvm.Cond.soleField "OpenGatesModel" "opened") ∈ lw_all := lw_g (lw_at lw_m7 53 rfl) rfl
theorem q1592 : (Jvm.Cond.laysFinal "OpenGatesModel" "OpenGatesModel" "words" "[J") ∈ lw_all := lw_g (lw_at lw_m7 54 rfl) rfl
theorem q1593 : (Jvm.Cond.soleField "OpenGatesModel" "words") ∈ lw_all := lw_g (lw_at lw_m7 55 rfl) rfl
theorem q1594 : (Jvm.Cond.laysFinal "OpenGatesModel" "OpenGatesModel" "orderWords" "[J") ∈ lw_all := lw_g (lw_at lw_m7 56 rfl) rfl
theorem q1595 : (Jvm.Cond.soleField "OpenGatesModel" "orderWords") ∈ lw_all := lw_g (lw_at lw_m7 57 rfl) rfl
theorem q1596 : (Jvm.Cond.laysFinal "OpenGatesModel" "OpenGatesModel" "heads" "[J") ∈ lw_all := lw_g (lw_at lw_m7 58 rfl) rfl
theorem q1597 : (Jvm.Cond.soleField "OpenGatesModel" "heads") ∈ lw_all := lw_g (lw_at lw_m7 59 rfl) rfl
theorem q1598 : (Jvm.Cond.lays "OpenGatesModel" "OpenGatesModel" "law" "I") ∈ lw_all := lw_g (lw_at lw_m7 60 rfl) rfl
theorem q1599 : (Jvm.Cond.soleField "OpenGatesModel" "law") ∈ lw_all := lw_g (lw_at lw_m7 61 rfl) rfl
theorem q1600 : (Jvm.Cond.laysFinal "OpenGatesModel" "OpenGatesModel" "set" "[J") ∈ lw_all := lw_g (lw_at lw_m7 62 rfl) rfl
theorem q1601 : (Jvm.Cond.soleField "OpenGatesModel" "set") ∈ lw_all := lw_g (lw_at lw_m7 63 rfl) rfl
theorem q1602 : (Jvm.Cond.laysFinal "OpenGatesModel" "OpenGatesModel" "now" "[J") ∈ lw_all := lw_g (lw_at lw_m7 64 rfl) rfl
theorem q1603 : (Jvm.Cond.soleField "OpenGatesModel" "now") ∈ lw_all := lw_g (lw_at lw_m7 65 rfl) rfl
theorem q1604 : (Jvm.Cond.laysFinal "OpenGatesModel" "OpenGatesModel" "rest" "[J") ∈ lw_all := lw_g (lw_at lw_m7 66 rfl) rfl
theorem q1605 : (Jvm.Cond.soleField "OpenGatesModel" "rest") ∈ lw_all := lw_g (lw_at lw_m7 67 rfl) rfl
theorem q1606 : (Jvm.Cond.lays "OpenGatesModel" "OpenGatesModel" "broken" "Z") ∈ lw_all := lw_g (lw_at lw_m7 68 rfl) rfl
theorem q1607 : (Jvm.Cond.soleField "OpenGatesModel" "broken") ∈ lw_all := lw_g (lw_at lw_m7 69 rfl) rfl
theorem q1608 : (Jvm.Cond.lays "OpenGatesModel" "OpenGatesModel" "value" "J") ∈ lw_all := lw_g (lw_at lw_m7 70 rfl) rfl
theorem q1609 : (Jvm.Cond.soleField "OpenGatesModel" "value") ∈ lw_all := lw_g (lw_at lw_m7 71 rfl) rfl
theorem q1610 : (Jvm.Cond.lays "OpenGatesModel" "OpenGatesModel" "sum" "J") ∈ lw_all := lw_g (lw_at lw_m7 72 rfl) rfl
theorem q1611 : (Jvm.Cond.soleField "OpenGatesModel" "sum") ∈ lw_all := lw_g (lw_at lw_m7 73 rfl) rfl
theorem q1612 : (Jvm.Cond.laysFinal "OpenGatesModel" "OpenGatesModel" "hours" "[I") ∈ lw_all := lw_g (lw_at lw_m7 74 rfl) rfl
theorem q1613 : (Jvm.Cond.soleField "OpenGatesModel" "hours") ∈ lw_all := lw_g (lw_at lw_m7 75 rfl) rfl
theorem q1614 : (Jvm.Cond.laysFinal "OpenGatesModel" "OpenGatesModel" "most" "[I") ∈ lw_all := lw_g (lw_at lw_m7 76 rfl) rfl
theorem q1615 : (Jvm.Cond.soleField "OpenGatesModel" "most") ∈ lw_all := lw_g (lw_at lw_m7 77 rfl) rfl
theorem q1616 : (Jvm.Cond.laysFinal "OpenGatesModel" "OpenGatesModel" "alike" "[I") ∈ lw_all := lw_g (lw_at lw_m7 78 rfl) rfl
theorem q1617 : (Jvm.Cond.soleField "OpenGatesModel" "alike") ∈ lw_all := lw_g (lw_at lw_m7 79 rfl) rfl
theorem q1618 : (Jvm.Cond.laysFinal "OpenGatesModel" "OpenGatesModel" "acts" "[J") ∈ lw_all := lw_g (lw_at lw_m7 80 rfl) rfl
theorem q1619 : (Jvm.Cond.soleField "OpenGatesModel" "acts") ∈ lw_all := lw_g (lw_at lw_m7 81 rfl) rfl
theorem q1620 : (Jvm.Cond.laysFinal "OpenGatesModel" "OpenGatesModel" "nOrder" "[I") ∈ lw_all := lw_g (lw_at lw_m7 82 rfl) rfl
theorem q1621 : (Jvm.Cond.soleField "OpenGatesModel" "nOrder") ∈ lw_all := lw_g (lw_at lw_m7 83 rfl) rfl
theorem q1622 : (Jvm.Cond.lays "OpenGatesModel" "OpenGatesModel" "done" "I") ∈ lw_all := lw_g (lw_at lw_m7 84 rfl) rfl
theorem q1623 : (Jvm.Cond.soleField "OpenGatesModel" "done") ∈ lw_all := lw_g (lw_at lw_m7 85 rfl) rfl
theorem q1624 : (Jvm.Cond.lays "OpenGatesModel" "OpenGatesModel" "latest" "I") ∈ lw_all := lw_g (lw_at lw_m7 86 rfl) rfl
theorem q1625 : (Jvm.Cond.soleField "OpenGatesModel" "latest") ∈ lw_all := lw_g (lw_at lw_m7 87 rfl) rfl
theorem q1626 : (Jvm.Cond.lays "OpenGatesModel" "OpenGatesModel" "stopped" "I") ∈ lw_all := lw_g (lw_at lw_m7 88 rfl) rfl
theorem q1627 : (Jvm.Cond.soleField "OpenGatesModel" "stopped") ∈ lw_all := lw_g (lw_at lw_m7 89 rfl) rfl
theorem q1628 : (Jvm.Cond.lays "OpenGatesModel" "OpenGatesModel" "off" "Z") ∈ lw_all := lw_g (lw_at lw_m7 90 rfl) rfl
theorem q1629 : (Jvm.Cond.soleField "OpenGatesModel" "off") ∈ lw_all := lw_g (lw_at lw_m7 91 rfl) rfl
theorem q1630 : (Jvm.Cond.lays "OpenGatesModel" "OpenGatesModel" "state" "J") ∈ lw_all := lw_g (lw_at lw_m7 92 rfl) rfl
theorem q1631 : (Jvm.Cond.soleField "OpenGatesModel" "state") ∈ lw_all := lw_g (lw_at lw_m7 93 rfl) rfl
theorem q1632 : (Jvm.Cond.laysFinal "OpenGatesModel" "OpenGatesModel" "drawn" "[I") ∈ lw_all := lw_g (lw_at lw_m7 94 rfl) rfl
theorem q1633 : (Jvm.Cond.soleField "OpenGatesModel" "drawn") ∈ lw_all := lw_g (lw_at lw_m7 95 rfl) rfl
theorem q1634 : (Jvm.Cond.lays "OpenGatesModel" "OpenGatesModel" "nDrawn" "I") ∈ lw_all := lw_g (lw_at lw_m7 96 rfl) rfl
theorem q1635 : (Jvm.Cond.soleField "OpenGatesModel" "nDrawn") ∈ lw_all := lw_g (lw_at lw_m7 97 rfl) rfl
theorem q1636 : (Jvm.Cond.superclass "OpenGatesModel" "java/lang/Object") ∈ lw_all := lw_g (lw_at lw_m7 98 rfl) rfl
theorem q1639 : (Jvm.Cond.instanceMethod ({ cls := "OpenGatesModel", name := "undo", desc := "()I" } : Jvm.MethodName)) ∈ lw_all := lw_g (lw_at lw_m7 101 rfl) rfl
theorem q1640 : (Jvm.Cond.selects "OpenGatesModel" ({ cls := "OpenGatesModel", name := "undo", desc := "()I" } : Jvm.MethodName) ({ cls := "OpenGatesModel", name := "undo", desc := "()I" } : Jvm.MethodName)) ∈ lw_all := lw_g (lw_at lw_m7 102 rfl) rfl
theorem q1641 : (Jvm.Cond.code ({ cls := "OpenGatesModel", name := "undo", desc := "()I" } : Jvm.MethodName) prog_22_method_12_code (1 : Nat) (Option.some Jvm.ClassFile.FieldType.int)) ∈ lw_all := lw_g (lw_at lw_m7 103 rfl) rfl
theorem q1642 : (Jvm.Cond.methodLink "OpenGatesModel" (155 : Nat) ({ cls := "OpenGatesModel", name := "tell", desc := "(I)I" } : Jvm.MethodName)) ∈ lw_all := lw_g (lw_at lw_m7 104 rfl) rfl
theorem q1643 : (Jvm.Cond.privateMethod ({ cls := "OpenGatesModel", name := "tell", desc := "(I)I" } : Jvm.MethodName)) ∈ lw_tbl := lw_at lw_m7 105 rfl
theorem q1644 : (Jvm.Cond.instanceMethod ({ cls := "OpenGatesModel", name := "tell", desc := "(I)I" } : Jvm.MethodName)) ∈ lw_all := lw_g (lw_at lw_m7 106 rfl) rfl
theorem q1645 : (Jvm.Cond.code ({ cls := "OpenGatesModel", name := "tell", desc := "(I)I" } : Jvm.MethodName) prog_22_method_7_code (2 : Nat) (Option.some Jvm.ClassFile.FieldType.int)) ∈ lw_all := lw_g (lw_at lw_m7 107 rfl) rfl
theorem q1646 : (Jvm.Cond.methodLink "OpenGatesModel" (159 : Nat) ({ cls := "OpenGatesModel", name := "putBack", desc := "(I)V" } : Jvm.MethodName)) ∈ lw_all := lw_g (lw_at lw_m7 108 rfl) rfl
theorem q1647 : (Jvm.Cond.privateMethod ({ cls := "OpenGatesModel", name := "putBack", desc := "(I)V" } : Jvm.MethodName)) ∈ lw_tbl := lw_at lw_m7 109 rfl
theorem q1648 : (Jvm.Cond.instanceMethod ({ cls := "OpenGatesModel", name := "putBack", desc := "(I)V" } : Jvm.MethodName)) ∈ lw_all := lw_g (lw_at lw_m7 110 rfl) rfl
theorem q1649 : (Jvm.Cond.code ({ cls := "OpenGatesModel", name := "putBack", desc := "(I)V" } : Jvm.MethodName) prog_22_method_10_code (3 : Nat) (Option.none : Option Jvm.ClassFile.FieldType)) ∈ lw_all := lw_g (lw_at lw_m7 111 rfl) rfl
theorem q1651 : (Jvm.Cond.instanceMethod ({ cls := "OpenGatesModel", name := "image", desc := "(I)I" } : Jvm.MethodName)) ∈ lw_all := lw_g (lw_at lw_m7 113 rfl) rfl
theorem q1652 : (Jvm.Cond.selects "OpenGatesModel" ({ cls := "OpenGatesModel", name := "image", desc := "(I)I" } : Jvm.MethodName) ({ cls := "OpenGatesModel", name := "image", desc := "(I)I" } : Jvm.MethodName)) ∈ lw_all := lw_g (lw_at lw_m7 114 rfl) rfl
theorem q1653 : (Jvm.Cond.code ({ cls := "OpenGatesModel", name := "image", desc := "(I)I" } : Jvm.MethodName) prog_22_method_13_code (3 : Nat) (Option.some Jvm.ClassFile.FieldType.int)) ∈ lw_all := lw_g (lw_at lw_m7 115 rfl) rfl
theorem q1654 : (Jvm.Cond.methodLink "OpenGatesModel" (162 : Nat) ({ cls := "OpenGatesModel", name := "in", desc := "(JJJ)Z" } : Jvm.MethodName)) ∈ lw_all := lw_g (lw_at lw_m7 116 rfl) rfl
theorem q1655 : (Jvm.Cond.static ({ cls := "OpenGatesModel", name := "in", desc := "(JJJ)Z" } : Jvm.MethodName)) ∈ lw_all := lw_g (lw_at lw_m7 117 rfl) rfl
theorem q1656 : (Jvm.Cond.code ({ cls := "OpenGatesModel", name := "in", desc := "(JJJ)Z" } : Jvm.MethodName) prog_22_method_3_code (6 : Nat) (Option.some Jvm.ClassFile.FieldType.boolean)) ∈ lw_all := lw_g (lw_at lw_m7 118 rfl) rfl
theorem q1658 : (Jvm.Cond.instanceMethod ({ cls := "OpenGatesModel", name := "back", desc := "(I)I" } : Jvm.MethodName)) ∈ lw_all := lw_g (lw_at lw_m7 120 rfl) rfl
theorem q1659 : (Jvm.Cond.selects "OpenGatesModel" ({ cls := "OpenGatesModel", name := "back", desc := "(I)I" } : Jvm.MethodName) ({ cls := "OpenGatesModel", name := "back", desc := "(I)I" } : Jvm.MethodName)) ∈ lw_all := lw_g (lw_at lw_m7 121 rfl) rfl
theorem q1660 : (Jvm.Cond.code ({ cls := "OpenGatesModel", name := "back", desc := "(I)I" } : Jvm.MethodName) prog_22_method_14_code (3 : Nat) (Option.some Jvm.ClassFile.FieldType.int)) ∈ lw_all := lw_g (lw_at lw_m7 122 rfl) rfl
theorem q1662 : (Jvm.Cond.instanceMethod ({ cls := "OpenGatesModel", name := "fort", desc := "(II)I" } : Jvm.MethodName)) ∈ lw_all := lw_g (lw_at lw_m7 124 rfl) rfl
theorem q1663 : (Jvm.Cond.selects "OpenGatesModel" ({ cls := "OpenGatesModel", name := "fort", desc := "(II)I" } : Jvm.MethodName) ({ cls := "OpenGatesModel", name := "fort", desc := "(II)I" } : Jvm.MethodName)) ∈ lw_all := lw_g (lw_at lw_m7 125 rfl) rfl
theorem q1664 : (Jvm.Cond.code ({ cls := "OpenGatesModel", name := "fort", desc := "(II)I" } : Jvm.MethodName) prog_22_method_21_code (3 : Nat) (Option.some Jvm.ClassFile.FieldType.int)) ∈ lw_all := lw_g (lw_at lw_m7 126 rfl) rfl
theorem q1665 : (Jvm.Cond.methodLink "OpenGatesModel" (191 : Nat) ({ cls := "OpenGatesModel", name := "come", desc := "(II)I" } : Jvm.MethodName)) ∈ lw_all := lw_g (lw_at lw_m7 127 rfl) rfl
theorem q1666 : (Jvm.Cond.privateMethod ({ cls := "OpenGatesModel", name := "come", desc := "(II)I" } : Jvm.MethodName)) ∈ lw_tbl := lw_at lw_m7 128 rfl
theorem q1667 : (Jvm.Cond.instanceMethod ({ cls := "OpenGatesModel", name := "come", desc := "(II)I" } : Jvm.MethodName)) ∈ lw_all := lw_g (lw_at lw_m7 129 rfl) rfl
theorem q1668 : (Jvm.Cond.code ({ cls := "OpenGatesModel", name := "come", desc := "(II)I" } : Jvm.MethodName) prog_22_method_20_code (4 : Nat) (Option.some Jvm.ClassFile.FieldType.int)) ∈ lw_all := lw_g (lw_at lw_m7 130 rfl) rfl
theorem q1669 : (Jvm.Cond.constantLong "OpenGatesModel" (187 : Nat) (99 : Int64)) ∈ lw_all := lw_g (lw_at lw_m7 131 rfl) rfl
theorem q1670 : (Jvm.Cond.constantLong "OpenGatesModel" (189 : Nat) (3 : Int64)) ∈ lw_all := lw_g (lw_at lw_m7 132 rfl) rfl
theorem q1672 : (Jvm.Cond.instanceMethod ({ cls := "OpenGatesModel", name := "of", desc := "(II)I" } : Jvm.MethodName)) ∈ lw_all := lw_g (lw_at lw_m7 134 rfl) rfl
theorem q1673 : (Jvm.Cond.selects "OpenGatesModel" ({ cls := "OpenGatesModel", name := "of", desc := "(II)I" } : Jvm.MethodName) ({ cls := "OpenGatesModel", name := "of", desc := "(II)I" } : Jvm.MethodName)) ∈ lw_all := lw_g (lw_at lw_m7 135 rfl) rfl
theorem q1674 : (Jvm.Cond.code ({ cls := "OpenGatesModel", name := "of", desc := "(II)I" } : Jvm.MethodName) prog_22_method_22_code (3 : Nat) (Option.some Jvm.ClassFile.FieldType.int)) ∈ lw_all := lw_g (lw_at lw_m7 136 rfl) rfl
theorem q1675 : (Jvm.Cond.methodLink "OpenGatesModel" (195 : Nat) ({ cls := "OpenGatesModel", name := "isFort", desc := "(I)Z" } : Jvm.MethodName)) ∈ lw_all := lw_g (lw_at lw_m7 137 rfl) rfl
theorem q1676 : (Jvm.Cond.privateMethod ({ cls := "OpenGatesModel", name := "isFort", desc := "(I)Z" } : Jvm.MethodName)) ∈ lw_tbl := lw_at lw_m7 138 rfl
theorem q1677 : (Jvm.Cond.instanceMethod ({ cls := "OpenGatesModel", name := "isFort", desc := "(I)Z" } : Jvm.MethodName)) ∈ lw_all := lw_g (lw_at lw_m7 139 rfl) rfl
theorem q1678 : (Jvm.Cond.code ({ cls := "OpenGatesModel", name := "isFort", desc := "(I)Z" } : Jvm.MethodName) prog_22_method_15_code (2 : Nat) (Option.some Jvm.ClassFile.FieldType.boolean)) ∈ lw_all := lw_g (lw_at lw_m7 140 rfl) rfl
theorem q1679 : (Jvm.Cond.methodLink "OpenGatesModel" (181 : Nat) ({ cls := "OpenGatesModel", name := "beliefBy", desc := "(II)J" } : Jvm.MethodName)) ∈ lw_all := lw_g (lw_at lw_m7 141 rfl) rfl
theorem q1680 : (Jvm.Cond.privateMethod ({ cls := "OpenGatesModel", name := "beliefBy", desc := "(II)J" } : Jvm.MethodName)) ∈ lw_tbl := lw_at lw_m7 142 rfl
theorem q1681 : (Jvm.Cond.instanceMethod ({ cls := "OpenGatesModel", name := "beliefBy", desc := "(II)J" } : Jvm.MethodName)) ∈ lw_all := lw_g (lw_at lw_m7 143 rfl) rfl
theorem q1682 : (Jvm.Cond.code ({ cls := "OpenGatesModel", name := "beliefBy", desc := "(II)J" } : Jvm.MethodName) prog_22_method_18_code (11 : Nat) (Option.some Jvm.ClassFile.FieldType.long)) ∈ lw_all := lw_g (lw_at lw_m7 144 rfl) rfl
theorem q1683 : (Jvm.Cond.constantLong "OpenGatesModel" (168 : Nat) (1000 : Int64)) ∈ lw_all := lw_g (lw_at lw_m7 145 rfl) rfl
theorem q1684 : (Jvm.Cond.methodLink "OpenGatesModel" (170 : Nat) ({ cls := "OpenGatesModel", name := "is", desc := "(II)Z" } : Jvm.MethodName)) ∈ lw_all := lw_g (lw_at lw_m7 146 rfl) rfl
theorem q1685 : (Jvm.Cond.static ({ cls := "OpenGatesModel", name := "is", desc := "(II)Z" } : Jvm.MethodName)) ∈ lw_all := lw_g (lw_at lw_m7 147 rfl) rfl
theorem q1686 : (Jvm.Cond.code ({ cls := "OpenGatesModel", name := "is", desc := "(II)Z" } : Jvm.MethodName) prog_22_method_4_code (2 : Nat) (Option.some Jvm.ClassFile.FieldType.boolean)) ∈ lw_all := lw_g (lw_at lw_m7 148 rfl) rfl
theorem q1687 : (Jvm.Cond.constantLong "OpenGatesModel" (174 : Nat) (1000000 : Int64)) ∈ lw_all := lw_g (lw_at lw_m7 149 rfl) rfl
theorem q1688 : (Jvm.Cond.methodLink "OpenGatesModel" (176 : Nat) ({ cls := "OpenGatesModel", name := "fameOf", desc := "(I)I" } : Jvm.MethodName)) ∈ lw_all := lw_g (lw_at lw_m7 150 rfl) rfl
theorem q1689 : (Jvm.Cond.privateMethod ({ cls := "OpenGatesModel", name := "fameOf", desc := "(I)I" } : Jvm.MethodName)) ∈ lw_tbl := lw_at lw_m7 151 rfl
theorem q1690 : (Jvm.Cond.instanceMethod ({ cls := "OpenGatesModel", name := "fameOf", desc := "(I)I" } : Jvm.MethodName)) ∈ lw_all := lw_g (lw_at lw_m7 152 rfl) rfl
theorem q1691 : (Jvm.Cond.code ({ cls := "OpenGatesModel", name := "fameOf", desc := "(I)I" } : Jvm.MethodName) prog_22_method_17_code (2 : Nat) (Option.some Jvm.ClassFile.FieldType.int)) ∈ lw_all := lw_g (lw_at lw_m7 153 rfl) rfl
theorem q1692 : (Jvm.Cond.constantLong "OpenGatesModel" (179 : Nat) (100 : Int64)) ∈ lw_all := lw_g (lw_at lw_m7 154 rfl) rfl
theorem q1694 : (Jvm.Cond.instanceMethod ({ cls := "OpenGatesModel", name := "sign", desc := "(III)I" } : Jvm.MethodName)) ∈ lw_all := lw_g (lw_at lw_m7 156 rfl) rfl
theorem q1695 : (Jvm.Cond.selects "OpenGatesModel" ({ cls := "OpenGatesModel", name := "sign", desc := "(III)I" } : Jvm.MethodName) ({ cls := "OpenGatesModel", name := "sign", desc := "(III)I" } : Jvm.MethodName)) ∈ lw_all := lw_g (lw_at lw_m7 157 rfl) rfl
theorem q1696 : (Jvm.Cond.code ({ cls := "OpenGatesModel", name := "sign", desc := "(III)I" } : Jvm.MethodName) prog_22_method_23_code (4 : Nat) (Option.some Jvm.ClassFile.FieldType.int)) ∈ lw_all := lw_g (lw_at lw_m7 158 rfl) rfl
theorem q1697 : (Jvm.Cond.methodLink "OpenGatesModel" (199 : Nat) ({ cls := "OpenGatesModel", name := "isOne", desc := "(I)Z" } : Jvm.MethodName)) ∈ lw_all := lw_g (lw_at lw_m7 159 rfl) rfl
theorem q1698 : (Jvm.Cond.static ({ cls := "OpenGatesModel", name := "isOne", desc := "(I)Z" } : Jvm.MethodName)) ∈ lw_all := lw_g (lw_at lw_m7 160 rfl) rfl
theorem q1699 : (Jvm.Cond.code ({ cls := "OpenGatesModel", name := "isOne", desc := "(I)Z" } : Jvm.MethodName) prog_22_method_16_code (1 : Nat) (Option.some Jvm.ClassFile.FieldType.boolean)) ∈ lw_all := lw_g (lw_at lw_m7 161 rfl) rfl
theorem q1700 : (Jvm.Cond.constantLong "OpenGatesModel" (166 : Nat) (5 : Int64)) ∈ lw_all := lw_g (lw_at lw_m7 162 rfl) rfl
theorem q1701 : (Jvm.Cond.constantLong "OpenGatesModel" (202 : Nat) (2 : Int64)) ∈ lw_all := lw_g (lw_at lw_m7 163 rfl) rfl
theorem q1702 : (Jvm.Cond.constantLong "OpenGatesModel" (204 : Nat) (10 : Int64)) ∈ lw_all := lw_g (lw_at lw_m7 164 rfl) rfl
theorem q1703 : (Jvm.Cond.methodLink "OpenGatesModel" (206 : Nat) ({ cls := "OpenGatesModel", name := "change", desc := "(II)I" } : Jvm.MethodName)) ∈ lw_all := lw_g (lw_at lw_m7 165 rfl) rfl
theorem q1704 : (Jvm.Cond.privateMethod ({ cls := "OpenGatesModel", name := "change", desc := "(II)I" } : Jvm.MethodName)) ∈ lw_tbl := lw_at lw_m7 166 rfl
theorem q1705 : (Jvm.Cond.instanceMethod ({ cls := "OpenGatesModel", name := "change", desc := "(II)I" } : Jvm.MethodName)) ∈ lw_all := lw_g (lw_at lw_m7 167 rfl) rfl
theorem q1706 : (Jvm.Cond.code ({ cls := "OpenGatesModel", name := "change", desc := "(II)I" } : Jvm.MethodName) prog_22_method_8_code (4 : Nat) (Option.some Jvm.ClassFile.FieldType.int)) ∈ lw_all := lw_g (lw_at lw_m7 168 rfl) rfl
theorem q1708 : (Jvm.Cond.instanceMethod ({ cls := "OpenGatesModel", name := "road", desc := "(III)I" } : Jvm.MethodName)) ∈ lw_all := lw_g (lw_at lw_m7 170 rfl) rfl
theorem q1709 : (Jvm.Cond.selects "OpenGatesModel" ({ cls := "OpenGatesModel", name := "road", desc := "(III)I" } : Jvm.MethodName) ({ cls := "OpenGatesModel", name := "road", desc := "(III)I" } : Jvm.MethodName)) ∈ lw_all := lw_g (lw_at lw_m7 171 rfl) rfl
theorem q1710 : (Jvm.Cond.code ({ cls := "OpenGatesModel", name := "road", desc := "(III)I" } : Jvm.MethodName) prog_22_method_24_code (4 : Nat) (Option.some Jvm.ClassFile.FieldType.int)) ∈ lw_all := lw_g (lw_at lw_m7 172 rfl) rfl
theorem q1712 : (Jvm.Cond.instanceMethod ({ cls := "OpenGatesModel", name := "fame", desc := "(II)I" } : Jvm.MethodName)) ∈ lw_all := lw_g (lw_at lw_m7 174 rfl) rfl
theorem q1713 : (Jvm.Cond.selects "OpenGatesModel" ({ cls := "OpenGatesModel", name := "fame", desc := "(II)I" } : Jvm.MethodName) ({ cls := "OpenGatesModel", name := "fame", desc := "(II)I" } : Jvm.MethodName)) ∈ lw_all := lw_g (lw_at lw_m7 175 rfl) rfl
theorem q1714 : (Jvm.Cond.code ({ cls := "OpenGatesModel", name := "fame", desc := "(II)I" } : Jvm.MethodName) prog_22_method_25_code (3 : Nat) (Option.some Jvm.ClassFile.FieldType.int)) ∈ lw_all := lw_g (lw_at lw_m7 176 rfl) rfl
theorem q1716 : (Jvm.Cond.instanceMethod ({ cls := "OpenGatesModel", name := "terms", desc := "(II)I" } : Jvm.MethodName)) ∈ lw_all := lw_g (lw_at lw_m7 178 rfl) rfl
theorem q1717 : (Jvm.Cond.selects "OpenGatesModel" ({ cls := "OpenGatesModel", name := "terms", desc := "(II)I" } : Jvm.MethodName) ({ cls := "OpenGatesModel", name := "terms", desc := "(II)I" } : Jvm.MethodName)) ∈ lw_all := lw_g (lw_at lw_m7 179 rfl) rfl
theorem q1718 : (Jvm.Cond.code ({ cls := "OpenGatesModel", name := "terms", desc := "(II)I" } : Jvm.MethodName) prog_22_method_26_code (4 : Nat) (Option.some Jvm.ClassFile.FieldType.int)) ∈ lw_all := lw_g (lw_at lw_m7 180 rfl) rfl
theorem q1719 : (Jvm.Cond.constantLong "OpenGatesModel" (209 : Nat) (999 : Int64)) ∈ lw_all := lw_g (lw_at lw_m7 181 rfl) rfl
theorem q1720 : (Jvm.Cond.constantLong "OpenGatesModel" (211 : Nat) (9 : Int64)) ∈ lw_all := lw_g (lw_at lw_m7 182 rfl) rfl
theorem q1722 : (Jvm.Cond.instanceMethod ({ cls := "OpenGatesModel", name := "row", desc := "()I" } : Jvm.MethodName)) ∈ lw_all := lw_g (lw_at lw_m7 184 rfl) rfl
theorem q1723 : (Jvm.Cond.selects "OpenGatesModel" ({ cls := "OpenGatesModel", name := "row", desc := "()I" } : Jvm.MethodName) ({ cls := "OpenGatesModel", name := "row", desc := "()I" } : Jvm.MethodName)) ∈ lw_all := lw_g (lw_at lw_m7 185 rfl) rfl
theorem q1724 : (Jvm.Cond.code ({ cls := "OpenGatesModel", name := "row", desc := "()I" } : Jvm.MethodName) prog_22_method_27_code (4 : Nat) (Option.some Jvm.ClassFile.FieldType.int)) ∈ lw_all := lw_g (lw_at lw_m7 186 rfl) rfl
theorem q1726 : (Jvm.Cond.instanceMethod ({ cls := "OpenGatesModel", name := "brooms", desc := "()I" } : Jvm.MethodName)) ∈ lw_all := lw_g (lw_at lw_m7 188 rfl) rfl
theorem q1727 : (Jvm.Cond.selects "OpenGatesModel" ({ cls := "OpenGatesModel", name := "brooms", desc := "()I" } : Jvm.MethodName) ({ cls := "OpenGatesModel", name := "brooms", desc := "()I" } : Jvm.MethodName)) ∈ lw_all := lw_g (lw_at lw_m7 189 rfl) rfl
theorem q1728 : (Jvm.Cond.code ({ cls := "OpenGatesModel", name := "brooms", desc := "()I" } : Jvm.MethodName) prog_22_method_28_code (1 : Nat) (Option.some Jvm.ClassFile.FieldType.int)) ∈ lw_all := lw_g (lw_at lw_m7 190 rfl) rfl
theorem q1730 : (Jvm.Cond.instanceMethod ({ cls := "OpenGatesModel", name := "feed", desc := "(IIIII)I" } : Jvm.MethodName)) ∈ lw_all := lw_g (lw_at lw_m7 192 rfl) rfl
theorem q1731 : (Jvm.Cond.selects "OpenGatesModel" ({ cls := "OpenGatesModel", name := "feed", desc := "(IIIII)I" } : Jvm.MethodName) ({ cls := "OpenGatesModel", name := "feed", desc := "(IIIII)I" } : Jvm.MethodName)) ∈ lw_all := lw_g (lw_at lw_m7 193 rfl) rfl
theorem q1732 : (Jvm.Cond.code ({ cls := "OpenGatesModel", name := "feed", desc := "(IIIII)I" } : Jvm.MethodName) prog_22_method_30_code (6 : Nat) (Option.some Jvm.ClassFile.FieldType.int)) ∈ lw_all := lw_g (lw_at lw_m7 194 rfl) rfl
theorem q1733 : (Jvm.Cond.methodLink "OpenGatesModel" (219 : Nat) ({ cls := "OpenGatesModel", name := "four", desc := "(I)V" } : Jvm.MethodName)) ∈ lw_all := lw_g (lw_at lw_m7 195 rfl) rfl
theorem q1734 : (Jvm.Cond.privateMethod ({ cls := "OpenGatesModel", name := "four", desc := "(I)V" } : Jvm.MethodName)) ∈ lw_tbl := lw_at lw_m7 196 rfl
theorem q1735 : (Jvm.Cond.instanceMethod ({ cls := "OpenGatesModel", name := "four", desc := "(I)V" } : Jvm.MethodName)) ∈ lw_all := lw_g (lw_at lw_m7 197 rfl) rfl
theorem q1736 : (Jvm.Cond.code ({ cls := "OpenGatesModel", name := "four", desc := "(I)V" } : Jvm.MethodName) prog_22_method_29_code (3 : Nat) (Option.none : Option Jvm.ClassFile.FieldType)) ∈ lw_all := lw_g (lw_at lw_m7 198 rfl) rfl
theorem q1738 : (Jvm.Cond.instanceMethod ({ cls := "OpenGatesModel", name := "end", desc := "(I)I" } : Jvm.MethodName)) ∈ lw_all := lw_g (lw_at lw_m7 200 rfl) rfl
theorem q1739 : (Jvm.Cond.selects "OpenGatesModel" ({ cls := "OpenGatesModel", name := "end", desc := "(I)I" } : Jvm.MethodName) ({ cls := "OpenGatesModel", name := "end", desc := "(I)I" } : Jvm.MethodName)) ∈ lw_all := lw_g (lw_at lw_m7 201 rfl) rfl
theorem q1740 : (Jvm.Cond.code ({ cls := "OpenGatesModel", name := "end", desc := "(I)I" } : Jvm.MethodName) prog_22_method_31_code (2 : Nat) (Option.some Jvm.ClassFile.FieldType.int)) ∈ lw_all := lw_g (lw_at lw_m7 202 rfl) rfl
theorem q1742 : (Jvm.Cond.instanceMethod ({ cls := "OpenGatesModel", name := "fault", desc := "()I" } : Jvm.MethodName)) ∈ lw_all := lw_g (lw_at lw_m7 204 rfl) rfl
theorem q1743 : (Jvm.Cond.selects "OpenGatesModel" ({ cls := "OpenGatesModel", name := "fault", desc := "()I" } : Jvm.MethodName) ({ cls := "OpenGatesModel", name := "fault", desc := "()I" } : Jvm.MethodName)) ∈ lw_all := lw_g (lw_at lw_m7 205 rfl) rfl
theorem q1744 : (Jvm.Cond.code ({ cls := "OpenGatesModel", name := "fault", desc := "()I" } : Jvm.MethodName) prog_22_method_40_code (1 : Nat) (Option.some Jvm.ClassFile.FieldType.int)) ∈ lw_all := lw_g (lw_at lw_m7 206 rfl) rfl
theorem q1746 : (Jvm.Cond.instanceMethod ({ cls := "OpenGatesModel", name := "law", desc := "()I" } : Jvm.MethodName)) ∈ lw_all := lw_g (lw_at lw_m7 208 rfl) rfl
theorem q1747 : (Jvm.Cond.selects "OpenGatesModel" ({ cls := "OpenGatesModel", name := "law", desc := "()I" } : Jvm.MethodName) ({ cls := "OpenGatesModel", name := "law", desc := "()I" } : Jvm.MethodName)) ∈ lw_all := lw_g (lw_at lw_m7 209 rfl) rfl
theorem q1748 : (Jvm.Cond.code ({ cls := "OpenGatesModel", name := "law", desc := "()I" } : Jvm.MethodName) prog_22_method_59_code (3 : Nat) (Option.some Jvm.ClassFile.FieldType.int)) ∈ lw_all := lw_g (lw_at lw_m7 210 rfl) rfl
theorem q1749 : (Jvm.Cond.methodLink "OpenGatesModel" (358 : Nat) ({ cls := "OpenGatesModel", name := "beginText", desc := "(Z)V" } : Jvm.MethodName)) ∈ lw_all := lw_g (lw_at lw_m7 211 rfl) rfl
theorem q1750 : (Jvm.Cond.privateMethod ({ cls := "OpenGatesModel", name := "beginText", desc := "(Z)V" } : Jvm.MethodName)) ∈ lw_tbl := lw_at lw_m7 212 rfl
theorem q1751 : (Jvm.Cond.instanceMethod ({ cls := "OpenGatesModel", name := "beginText", desc := "(Z)V" } : Jvm.MethodName)) ∈ lw_all := lw_g (lw_at lw_m7 213 rfl) rfl
theorem q1752 : (Jvm.Cond.code ({ cls := "OpenGatesModel", name := "beginText", desc := "(Z)V" } : Jvm.MethodName) prog_22_method_56_code (2 : Nat) (Option.none : Option Jvm.ClassFile.FieldType)) ∈ lw_all := lw_g (lw_at lw_m7 214 rfl) rfl
theorem q1753 : (Jvm.Cond.methodLink "OpenGatesModel" (347 : Nat) ({ cls := "OpenGatesModel", name := "begin", desc := "()V" } : Jvm.MethodName)) ∈ lw_all := lw_g (lw_at lw_m7 215 rfl) rfl
theorem q1754 : (Jvm.Cond.privateMethod ({ cls := "OpenGatesModel", name := "begin", desc := "()V" } : Jvm.MethodName)) ∈ lw_tbl := lw_at lw_m7 216 rfl
theorem q1755 : (Jvm.Cond.instanceMethod ({ cls := "OpenGatesModel", name := "begin", desc := "()V" } : Jvm.MethodName)) ∈ lw_all := lw_g (lw_at lw_m7 217 rfl) rfl
theorem q1756 : (Jvm.Cond.code ({ cls := "OpenGatesModel", name := "begin", desc := "()V" } : Jvm.MethodName) prog_22_method_34_code (1 : Nat) (Option.none : Option Jvm.ClassFile.FieldType)) ∈ lw_all := lw_g (lw_at lw_m7 218 rfl) rfl
theorem q1757 : (Jvm.Cond.methodLink "OpenGatesModel" (229 : Nat) ({ cls := "OpenGatesModel", name := "nextToken", desc := "()V" } : Jvm.MethodName)) ∈ lw_all := lw_g (lw_at lw_m7 219 rfl) rfl
theorem q1758 : (Jvm.Cond.privateMethod ({ cls := "OpenGatesModel", name := "nextToken", desc := "()V" } : Jvm.MethodName)) ∈ lw_tbl := lw_at lw_m7 220 rfl
theorem q1759 : (Jvm.Cond.instanceMethod ({ cls := "OpenGatesModel", name := "nextToken", desc := "()V" } : Jvm.MethodName)) ∈ lw_all := lw_g (lw_at lw_m7 221 rfl) rfl
theorem q1760 : (Jvm.Cond.code ({ cls := "OpenGatesModel", name := "nextToken", desc := "()V" } : Jvm.MethodName) prog_22_method_35_code (1 : Nat) (Option.none : Option Jvm.ClassFile.FieldType)) ∈ lw_all := lw_g (lw_at lw_m7 222 rfl) rfl
theorem q1761 : (Jvm.Cond.methodLink "OpenGatesModel" (239 : Nat) ({ cls := "OpenGatesModel", name := "isSmall", desc := "(I)Z" } : Jvm.MethodName)) ∈ lw_all := lw_g (lw_at lw_m7 223 rfl) rfl
theorem q1762 : (Jvm.Cond.static ({ cls := "OpenGatesModel", name := "isSmall", desc := "(I)Z" } : Jvm.MethodName)) ∈ lw_all := lw_g (lw_at lw_m7 224 rfl) rfl
theorem q1763 : (Jvm.Cond.code ({ cls := "OpenGatesModel", name := "isSmall", desc := "(I)Z" } : Jvm.MethodName) prog_22_method_32_code (1 : Nat) (Option.some Jvm.ClassFile.FieldType.boolean)) ∈ lw_all := lw_g (lw_at lw_m7 225 rfl) rfl
theorem q1764 : (Jvm.Cond.methodLink "OpenGatesModel" (242 : Nat) ({ cls := "OpenGatesModel", name := "isDigit", desc := "(I)Z" } : Jvm.MethodName)) ∈ lw_all := lw_g (lw_at lw_m7 226 rfl) rfl
theorem q1765 : (Jvm.Cond.static ({ cls := "OpenGatesModel", name := "isDigit", desc := "(I)Z" } : Jvm.MethodName)) ∈ lw_all := lw_g (lw_at lw_m7 227 rfl) rfl
theorem q1766 : (Jvm.Cond.code ({ cls := "OpenGatesModel", name := "isDigit", desc := "(I)Z" } : Jvm.MethodName) prog_22_method_33_code (1 : Nat) (Option.some Jvm.ClassFile.FieldType.boolean)) ∈ lw_all := lw_g (lw_at lw_m7 228 rfl) rfl
theorem q1767 : (Jvm.Cond.constantLong "OpenGatesModel" (248 : Nat) (32 : Int64)) ∈ lw_all := lw_g (lw_at lw_m7 229 rfl) rfl
theorem q1768 : (Jvm.Cond.constantLong "OpenGatesModel" (250 : Nat) (96 : Int64)) ∈ lw_all := lw_g (lw_at lw_m7 230 rfl) rfl
theorem q1769 : (Jvm.Cond.constantLong "OpenGatesModel" (252 : Nat) (-1 : Int64)) ∈ lw_all := lw_g (lw_at lw_m7 231 rfl) rfl
theorem q1770 : (Jvm.Cond.constantLong "OpenGatesModel" (254 : Nat) (48 : Int64)) ∈ lw_all := lw_g (lw_at lw_m7 232 rfl) rfl
theorem q1771 : (Jvm.Cond.methodLink "OpenGatesModel" (361 : Nat) ({ cls := "OpenGatesModel", name := "readLaw", desc := "()V" } : Jvm.MethodName)) ∈ lw_all := lw_g (lw_at lw_m7 233 rfl) rfl
theorem q1772 : (Jvm.Cond.privateMethod ({ cls := "OpenGatesModel", name := "readLaw", desc := "()V" } : Jvm.MethodName)) ∈ lw_tbl := lw_at lw_m7 234 rfl
theorem q1773 : (Jvm.Cond.instanceMethod ({ cls := "OpenGatesModel", name := "readLaw", desc := "()V" } : Jvm.MethodName)) ∈ lw_all := lw_g (lw_at lw_m7 235 rfl) rfl
theorem q1774 : (Jvm.Cond.code ({ cls := "OpenGatesModel", name := "readLaw", desc := "()V" } : Jvm.MethodName) prog_22_method_58_code (4 : Nat) (Option.none : Option Jvm.ClassFile.FieldType)) ∈ lw_all := lw_g (lw_at lw_m7 236 rfl) rfl
theorem q1775 : (Jvm.Cond.methodLink "OpenGatesModel" (281 : Nat) ({ cls := "OpenGatesModel", name := "isWord", desc := "(J)Z" } : Jvm.MethodName)) ∈ lw_all := lw_g (lw_at lw_m7 237 rfl) rfl
theorem q1776 : (Jvm.Cond.privateMethod ({ cls := "OpenGatesModel", name := "isWord", desc := "(J)Z" } : Jvm.MethodName)) ∈ lw_tbl := lw_at lw_m7 238 rfl
theorem q1777 : (Jvm.Cond.instanceMethod ({ cls := "OpenGatesModel", name := "isWord", desc := "(J)Z" } : Jvm.MethodName)) ∈ lw_all := lw_g (lw_at lw_m7 239 rfl) rfl
theorem q1778 : (Jvm.Cond.code ({ cls := "OpenGatesModel", name := "isWord", desc := "(J)Z" } : Jvm.MethodName) prog_22_method_36_code (3 : Nat) (Option.some Jvm.ClassFile.FieldType.boolean)) ∈ lw_all := lw_g (lw_at lw_m8 0 rfl) rfl
theorem q1779 : (Jvm.Cond.methodLink "OpenGatesModel" (256 : Nat) ({ cls := "OpenGatesModel", name := "must", desc := "(Z)V" } : Jvm.MethodName)) ∈ lw_all := lw_g (lw_at lw_m8 1 rfl) rfl
theorem q1780 : (Jvm.Cond.privateMethod ({ cls := "OpenGatesModel", name := "must", desc := "(Z)V" } : Jvm.MethodName)) ∈ lw_tbl := lw_at lw_m8 2 rfl
theorem q1781 : (Jvm.Cond.instanceMethod ({ cls := "OpenGatesModel", name := "must", desc := "(Z)V" } : Jvm.MethodName)) ∈ lw_all := lw_g (lw_at lw_m8 3 rfl) rfl
theorem q1782 : (Jvm.Cond.code ({ cls := "OpenGatesModel", name := "must", desc := "(Z)V" } : Jvm.MethodName) prog_22_method_38_code (2 : Nat) (Option.none : Option Jvm.ClassFile.FieldType)) ∈ lw_all := lw_g (lw_at lw_m8 4 rfl) rfl
theorem q1783 : (Jvm.Cond.methodLink "OpenGatesModel" (353 : Nat) ({ cls := "OpenGatesModel", name := "readExpression", desc := "(Z)V" } : Jvm.MethodName)) ∈ lw_all := lw_g (lw_at lw_m8 5 rfl) rfl
theorem q1784 : (Jvm.Cond.privateMethod ({ cls := "OpenGatesModel", name := "readExpression", desc := "(Z)V" } : Jvm.MethodName)) ∈ lw_tbl := lw_at lw_m8 6 rfl
theorem q1785 : (Jvm.Cond.instanceMethod ({ cls := "OpenGatesModel", name := "readExpression", desc := "(Z)V" } : Jvm.MethodName)) ∈ lw_all := lw_g (lw_at lw_m8 7 rfl) rfl
theorem q1786 : (Jvm.Cond.code ({ cls := "OpenGatesModel", name := "readExpression", desc := "(Z)V" } : Jvm.MethodName) prog_22_method_55_code (3 : Nat) (Option.none : Option Jvm.ClassFile.FieldType)) ∈ lw_all := lw_g (lw_at lw_m8 8 rfl) rfl
theorem q1787 : (Jvm.Cond.methodLink "OpenGatesModel" (337 : Nat) ({ cls := "OpenGatesModel", name := "readPlain", desc := "()I" } : Jvm.MethodName)) ∈ lw_all := lw_g (lw_at lw_m8 9 rfl) rfl
theorem q1788 : (Jvm.Cond.privateMethod ({ cls := "OpenGatesModel", name := "readPlain", desc := "()I" } : Jvm.MethodName)) ∈ lw_tbl := lw_at lw_m8 10 rfl
theorem q1789 : (Jvm.Cond.instanceMethod ({ cls := "OpenGatesModel", name := "readPlain", desc := "()I" } : Jvm.MethodName)) ∈ lw_all := lw_g (lw_at lw_m8 11 rfl) rfl
theorem q1790 : (Jvm.Cond.code ({ cls := "OpenGatesModel", name := "readPlain", desc := "()I" } : Jvm.MethodName) prog_22_method_52_code (1 : Nat) (Option.some Jvm.ClassFile.FieldType.int)) ∈ lw_all := lw_g (lw_at lw_m8 12 rfl) rfl
theorem q1791 : (Jvm.Cond.constantLong "OpenGatesModel" (318 : Nat) (14836 : Int64)) ∈ lw_all := lw_g (lw_at lw_m8 13 rfl) rfl
theorem q1792 : (Jvm.Cond.methodLink "OpenGatesModel" (288 : Nat) ({ cls := "OpenGatesModel", name := "push", desc := "(II)V" } : Jvm.MethodName)) ∈ lw_all := lw_g (lw_at lw_m8 14 rfl) rfl
theorem q1793 : (Jvm.Cond.privateMethod ({ cls := "OpenGatesModel", name := "push", desc := "(II)V" } : Jvm.MethodName)) ∈ lw_tbl := lw_at lw_m8 15 rfl
theorem q1794 : (Jvm.Cond.instanceMethod ({ cls := "OpenGatesModel", name := "push", desc := "(II)V" } : Jvm.MethodName)) ∈ lw_all := lw_g (lw_at lw_m8 16 rfl) rfl
theorem q1795 : (Jvm.Cond.code ({ cls := "OpenGatesModel", name := "push", desc := "(II)V" } : Jvm.MethodName) prog_22_method_42_code (3 : Nat) (Option.none : Option Jvm.ClassFile.FieldType)) ∈ lw_all := lw_g (lw_at lw_m8 17 rfl) rfl
theorem q1796 : (Jvm.Cond.methodLink "OpenGatesModel" (294 : Nat) ({ cls := "OpenGatesModel", name := "isSign", desc := "(I)Z" } : Jvm.MethodName)) ∈ lw_all := lw_g (lw_at lw_m8 18 rfl) rfl
theorem q1797 : (Jvm.Cond.privateMethod ({ cls := "OpenGatesModel", name := "isSign", desc := "(I)Z" } : Jvm.MethodName)) ∈ lw_tbl := lw_at lw_m8 19 rfl
theorem q1798 : (Jvm.Cond.instanceMethod ({ cls := "OpenGatesModel", name := "isSign", desc := "(I)Z" } : Jvm.MethodName)) ∈ lw_all := lw_g (lw_at lw_m8 20 rfl) rfl
theorem q1799 : (Jvm.Cond.code ({ cls := "OpenGatesModel", name := "isSign", desc := "(I)Z" } : Jvm.MethodName) prog_22_method_37_code (2 : Nat) (Option.some Jvm.ClassFile.FieldType.boolean)) ∈ lw_all := lw_g (lw_at lw_m8 21 rfl) rfl
theorem q1800 : (Jvm.Cond.methodLink "OpenGatesModel" (297 : Nat) ({ cls := "OpenGatesModel", name := "openBracket", desc := "(I)V" } : Jvm.MethodName)) ∈ lw_all := lw_g (lw_at lw_m8 22 rfl) rfl
theorem q1801 : (Jvm.Cond.privateMethod ({ cls := "OpenGatesModel", name := "openBracket", desc := "(I)V" } : Jvm.MethodName)) ∈ lw_tbl := lw_at lw_m8 23 rfl
theorem q1802 : (Jvm.Cond.instanceMethod ({ cls := "OpenGatesModel", name := "openBracket", desc := "(I)V" } : Jvm.MethodName)) ∈ lw_all := lw_g (lw_at lw_m8 24 rfl) rfl
theorem q1803 : (Jvm.Cond.code ({ cls := "OpenGatesModel", name := "openBracket", desc := "(I)V" } : Jvm.MethodName) prog_22_method_49_code (2 : Nat) (Option.none : Option Jvm.ClassFile.FieldType)) ∈ lw_all := lw_g (lw_at lw_m8 25 rfl) rfl
theorem q1804 : (Jvm.Cond.methodLink "OpenGatesModel" (320 : Nat) ({ cls := "OpenGatesModel", name := "readPart", desc := "()I" } : Jvm.MethodName)) ∈ lw_all := lw_g (lw_at lw_m8 26 rfl) rfl
theorem q1805 : (Jvm.Cond.privateMethod ({ cls := "OpenGatesModel", name := "readPart", desc := "()I" } : Jvm.MethodName)) ∈ lw_tbl := lw_at lw_m8 27 rfl
theorem q1806 : (Jvm.Cond.instanceMethod ({ cls := "OpenGatesModel", name := "readPart", desc := "()I" } : Jvm.MethodName)) ∈ lw_all := lw_g (lw_at lw_m8 28 rfl) rfl
theorem q1807 : (Jvm.Cond.code ({ cls := "OpenGatesModel", name := "readPart", desc := "()I" } : Jvm.MethodName) prog_22_method_51_code (4 : Nat) (Option.some Jvm.ClassFile.FieldType.int)) ∈ lw_all := lw_g (lw_at lw_m8 29 rfl) rfl
theorem q1808 : (Jvm.Cond.methodLink "OpenGatesModel" (303 : Nat) ({ cls := "OpenGatesModel", name := "orderPartAt", desc := "()I" } : Jvm.MethodName)) ∈ lw_all := lw_g (lw_at lw_m8 30 rfl) rfl
theorem q1809 : (Jvm.Cond.privateMethod ({ cls := "OpenGatesModel", name := "orderPartAt", desc := "()I" } : Jvm.MethodName)) ∈ lw_tbl := lw_at lw_m8 31 rfl
theorem q1810 : (Jvm.Cond.instanceMethod ({ cls := "OpenGatesModel", name := "orderPartAt", desc := "()I" } : Jvm.MethodName)) ∈ lw_all := lw_g (lw_at lw_m8 32 rfl) rfl
theorem q1811 : (Jvm.Cond.code ({ cls := "OpenGatesModel", name := "orderPartAt", desc := "()I" } : Jvm.MethodName) prog_22_method_48_code (3 : Nat) (Option.some Jvm.ClassFile.FieldType.int)) ∈ lw_all := lw_g (lw_at lw_m8 33 rfl) rfl
theorem q1812 : (Jvm.Cond.methodLink "OpenGatesModel" (307 : Nat) ({ cls := "OpenGatesModel", name := "partAt", desc := "()I" } : Jvm.MethodName)) ∈ lw_all := lw_g (lw_at lw_m8 34 rfl) rfl
theorem q1813 : (Jvm.Cond.privateMethod ({ cls := "OpenGatesModel", name := "partAt", desc := "()I" } : Jvm.MethodName)) ∈ lw_tbl := lw_at lw_m8 35 rfl
theorem q1814 : (Jvm.Cond.instanceMethod ({ cls := "OpenGatesModel", name := "partAt", desc := "()I" } : Jvm.MethodName)) ∈ lw_all := lw_g (lw_at lw_m8 36 rfl) rfl
theorem q1815 : (Jvm.Cond.code ({ cls := "OpenGatesModel", name := "partAt", desc := "()I" } : Jvm.MethodName) prog_22_method_47_code (3 : Nat) (Option.some Jvm.ClassFile.FieldType.int)) ∈ lw_all := lw_g (lw_at lw_m8 37 rfl) rfl
theorem q1816 : (Jvm.Cond.methodLink "OpenGatesModel" (310 : Nat) ({ cls := "OpenGatesModel", name := "leaf", desc := "(ZII)V" } : Jvm.MethodName)) ∈ lw_all := lw_g (lw_at lw_m8 38 rfl) rfl
theorem q1817 : (Jvm.Cond.privateMethod ({ cls := "OpenGatesModel", name := "leaf", desc := "(ZII)V" } : Jvm.MethodName)) ∈ lw_tbl := lw_at lw_m8 39 rfl
theorem q1818 : (Jvm.Cond.instanceMethod ({ cls := "OpenGatesModel", name := "leaf", desc := "(ZII)V" } : Jvm.MethodName)) ∈ lw_all := lw_g (lw_at lw_m8 40 rfl) rfl
theorem q1819 : (Jvm.Cond.code ({ cls := "OpenGatesModel", name := "leaf", desc := "(ZII)V" } : Jvm.MethodName) prog_22_method_50_code (4 : Nat) (Option.none : Option Jvm.ClassFile.FieldType)) ∈ lw_all := lw_g (lw_at lw_m8 41 rfl) rfl
theorem q1820 : (Jvm.Cond.methodLink "OpenGatesModel" (269 : Nat) ({ cls := "OpenGatesModel", name := "emit", desc := "(II)V" } : Jvm.MethodName)) ∈ lw_all := lw_g (lw_at lw_m8 42 rfl) rfl
theorem q1821 : (Jvm.Cond.privateMethod ({ cls := "OpenGatesModel", name := "emit", desc := "(II)V" } : Jvm.MethodName)) ∈ lw_tbl := lw_at lw_m8 43 rfl
theorem q1822 : (Jvm.Cond.instanceMethod ({ cls := "OpenGatesModel", name := "emit", desc := "(II)V" } : Jvm.MethodName)) ∈ lw_all := lw_g (lw_at lw_m8 44 rfl) rfl
theorem q1823 : (Jvm.Cond.code ({ cls := "OpenGatesModel", name := "emit", desc := "(II)V" } : Jvm.MethodName) prog_22_method_41_code (3 : Nat) (Option.none : Option Jvm.ClassFile.FieldType)) ∈ lw_all := lw_g (lw_at lw_m8 45 rfl) rfl
theorem q1824 : (Jvm.Cond.methodLink "OpenGatesModel" (314 : Nat) ({ cls := "OpenGatesModel", name := "number", desc := "(JJ)I" } : Jvm.MethodName)) ∈ lw_all := lw_g (lw_at lw_m8 46 rfl) rfl
theorem q1825 : (Jvm.Cond.privateMethod ({ cls := "OpenGatesModel", name := "number", desc := "(JJ)I" } : Jvm.MethodName)) ∈ lw_tbl := lw_at lw_m8 47 rfl
theorem q1826 : (Jvm.Cond.instanceMethod ({ cls := "OpenGatesModel", name := "number", desc := "(JJ)I" } : Jvm.MethodName)) ∈ lw_all := lw_g (lw_at lw_m8 48 rfl) rfl
theorem q1827 : (Jvm.Cond.code ({ cls := "OpenGatesModel", name := "number", desc := "(JJ)I" } : Jvm.MethodName) prog_22_method_39_code (6 : Nat) (Option.some Jvm.ClassFile.FieldType.int)) ∈ lw_all := lw_g (lw_at lw_m8 49 rfl) rfl
theorem q1828 : (Jvm.Cond.methodLink "OpenGatesModel" (340 : Nat) ({ cls := "OpenGatesModel", name := "behindSum", desc := "(Z)I" } : Jvm.MethodName)) ∈ lw_all := lw_g (lw_at lw_m8 50 rfl) rfl
theorem q1829 : (Jvm.Cond.privateMethod ({ cls := "OpenGatesModel", name := "behindSum", desc := "(Z)I" } : Jvm.MethodName)) ∈ lw_tbl := lw_at lw_m8 51 rfl
theorem q1830 : (Jvm.Cond.instanceMethod ({ cls := "OpenGatesModel", name := "behindSum", desc := "(Z)I" } : Jvm.MethodName)) ∈ lw_all := lw_g (lw_at lw_m8 52 rfl) rfl
theorem q1831 : (Jvm.Cond.code ({ cls := "OpenGatesModel", name := "behindSum", desc := "(Z)I" } : Jvm.MethodName) prog_22_method_53_code (4 : Nat) (Option.some Jvm.ClassFile.FieldType.int)) ∈ lw_all := lw_g (lw_at lw_m8 53 rfl) rfl
theorem q1832 : (Jvm.Cond.methodLink "OpenGatesModel" (266 : Nat) ({ cls := "OpenGatesModel", name := "binds", desc := "(I)I" } : Jvm.MethodName)) ∈ lw_all := lw_g (lw_at lw_m8 54 rfl) rfl
theorem q1833 : (Jvm.Cond.static ({ cls := "OpenGatesModel", name := "binds", desc := "(I)I" } : Jvm.MethodName)) ∈ lw_all := lw_g (lw_at lw_m8 55 rfl) rfl
theorem q1834 : (Jvm.Cond.code ({ cls := "OpenGatesModel", name := "binds", desc := "(I)I" } : Jvm.MethodName) prog_22_method_43_code (1 : Nat) (Option.some Jvm.ClassFile.FieldType.int)) ∈ lw_all := lw_g (lw_at lw_m8 56 rfl) rfl
theorem q1835 : (Jvm.Cond.methodLink "OpenGatesModel" (323 : Nat) ({ cls := "OpenGatesModel", name := "settle", desc := "(I)V" } : Jvm.MethodName)) ∈ lw_all := lw_g (lw_at lw_m8 57 rfl) rfl
theorem q1836 : (Jvm.Cond.privateMethod ({ cls := "OpenGatesModel", name := "settle", desc := "(I)V" } : Jvm.MethodName)) ∈ lw_tbl := lw_at lw_m8 58 rfl
theorem q1837 : (Jvm.Cond.instanceMethod ({ cls := "OpenGatesModel", name := "settle", desc := "(I)V" } : Jvm.MethodName)) ∈ lw_all := lw_g (lw_at lw_m8 59 rfl) rfl
theorem q1838 : (Jvm.Cond.code ({ cls := "OpenGatesModel", name := "settle", desc := "(I)V" } : Jvm.MethodName) prog_22_method_44_code (2 : Nat) (Option.none : Option Jvm.ClassFile.FieldType)) ∈ lw_all := lw_g (lw_at lw_m8 60 rfl) rfl
theorem q1839 : (Jvm.Cond.methodLink "OpenGatesModel" (326 : Nat) ({ cls := "OpenGatesModel", name := "inner", desc := "()I" } : Jvm.MethodName)) ∈ lw_all := lw_g (lw_at lw_m8 61 rfl) rfl
theorem q1840 : (Jvm.Cond.privateMethod ({ cls := "OpenGatesModel", name := "inner", desc := "()I" } : Jvm.MethodName)) ∈ lw_tbl := lw_at lw_m8 62 rfl
theorem q1841 : (Jvm.Cond.instanceMethod ({ cls := "OpenGatesModel", name := "inner", desc := "()I" } : Jvm.MethodName)) ∈ lw_all := lw_g (lw_at lw_m8 63 rfl) rfl
theorem q1842 : (Jvm.Cond.code ({ cls := "OpenGatesModel", name := "inner", desc := "()I" } : Jvm.MethodName) prog_22_method_45_code (3 : Nat) (Option.some Jvm.ClassFile.FieldType.int)) ∈ lw_all := lw_g (lw_at lw_m8 64 rfl) rfl
theorem q1843 : (Jvm.Cond.methodLink "OpenGatesModel" (329 : Nat) ({ cls := "OpenGatesModel", name := "isCompared", desc := "()Z" } : Jvm.MethodName)) ∈ lw_all := lw_g (lw_at lw_m8 65 rfl) rfl
theorem q1844 : (Jvm.Cond.privateMethod ({ cls := "OpenGatesModel", name := "isCompared", desc := "()Z" } : Jvm.MethodName)) ∈ lw_tbl := lw_at lw_m8 66 rfl
theorem q1845 : (Jvm.Cond.instanceMethod ({ cls := "OpenGatesModel", name := "isCompared", desc := "()Z" } : Jvm.MethodName)) ∈ lw_all := lw_g (lw_at lw_m8 67 rfl) rfl
theorem q1846 : (Jvm.Cond.code ({ cls := "OpenGatesModel", name := "isCompared", desc := "()Z" } : Jvm.MethodName) prog_22_method_46_code (2 : Nat) (Option.some Jvm.ClassFile.FieldType.boolean)) ∈ lw_all := lw_g (lw_at lw_m8 68 rfl) rfl
theorem q1847 : (Jvm.Cond.constantLong "OpenGatesModel" (273 : Nat) (20 : Int64)) ∈ lw_all := lw_g (lw_at lw_m8 69 rfl) rfl
theorem q1848 : (Jvm.Cond.constantLong "OpenGatesModel" (275 : Nat) (24 : Int64)) ∈ lw_all := lw_g (lw_at lw_m8 70 rfl) rfl
theorem q1849 : (Jvm.Cond.constantLong "OpenGatesModel" (277 : Nat) (25 : Int64)) ∈ lw_all := lw_g (lw_at lw_m8 71 rfl) rfl
theorem q1850 : (Jvm.Cond.constantLong "OpenGatesModel" (279 : Nat) (27 : Int64)) ∈ lw_all := lw_g (lw_at lw_m8 72 rfl) rfl
theorem q1851 : (Jvm.Cond.methodLink "OpenGatesModel" (344 : Nat) ({ cls := "OpenGatesModel", name := "behindTest", desc := "()I" } : Jvm.MethodName)) ∈ lw_all := lw_g (lw_at lw_m8 73 rfl) rfl
theorem q1852 : (Jvm.Cond.privateMethod ({ cls := "OpenGatesModel", name := "behindTest", desc := "()I" } : Jvm.MethodName)) ∈ lw_tbl := lw_at lw_m8 74 rfl
theorem q1853 : (Jvm.Cond.instanceMethod ({ cls := "OpenGatesModel", name := "behindTest", desc := "()I" } : Jvm.MethodName)) ∈ lw_all := lw_g (lw_at lw_m8 75 rfl) rfl
theorem q1854 : (Jvm.Cond.code ({ cls := "OpenGatesModel", name := "behindTest", desc := "()I" } : Jvm.MethodName) prog_22_method_54_code (2 : Nat) (Option.some Jvm.ClassFile.FieldType.int)) ∈ lw_all := lw_g (lw_at lw_m8 76 rfl) rfl
theorem q1855 : (Jvm.Cond.constantLong "OpenGatesModel" (333 : Nat) (1476 : Int64)) ∈ lw_all := lw_g (lw_at lw_m8 77 rfl) rfl
theorem q1856 : (Jvm.Cond.constantLong "OpenGatesModel" (335 : Nat) (498 : Int64)) ∈ lw_all := lw_g (lw_at lw_m8 78 rfl) rfl
theorem q1857 : (Jvm.Cond.constantLong "OpenGatesModel" (356 : Nat) (294 : Int64)) ∈ lw_all := lw_g (lw_at lw_m8 79 rfl) rfl
theorem q1858 : (Jvm.Cond.methodLink "OpenGatesModel" (364 : Nat) ({ cls := "OpenGatesModel", name := "endText", desc := "()V" } : Jvm.MethodName)) ∈ lw_all := lw_g (lw_at lw_m8 80 rfl) rfl
theorem q1859 : (Jvm.Cond.privateMethod ({ cls := "OpenGatesModel", name := "endText", desc := "()V" } : Jvm.MethodName)) ∈ lw_tbl := lw_at lw_m8 81 rfl
theorem q1860 : (Jvm.Cond.instanceMethod ({ cls := "OpenGatesModel", name := "endText", desc := "()V" } : Jvm.MethodName)) ∈ lw_all := lw_g (lw_at lw_m8 82 rfl) rfl
theorem q1861 : (Jvm.Cond.code ({ cls := "OpenGatesModel", name := "endText", desc := "()V" } : Jvm.MethodName) prog_22_method_57_code (1 : Nat) (Option.none : Option Jvm.ClassFile.FieldType)) ∈ lw_all := lw_g (lw_at lw_m8 83 rfl) rfl
theorem q1863 : (Jvm.Cond.instanceMethod ({ cls := "OpenGatesModel", name := "force", desc := "(I)I" } : Jvm.MethodName)) ∈ lw_all := lw_g (lw_at lw_m8 85 rfl) rfl
theorem q1864 : (Jvm.Cond.selects "OpenGatesModel" ({ cls := "OpenGatesModel", name := "force", desc := "(I)I" } : Jvm.MethodName) ({ cls := "OpenGatesModel", name := "force", desc := "(I)I" } : Jvm.MethodName)) ∈ lw_all := lw_g (lw_at lw_m8 86 rfl) rfl
theorem q1865 : (Jvm.Cond.code ({ cls := "OpenGatesModel", name := "force", desc := "(I)I" } : Jvm.MethodName) prog_22_method_60_code (2 : Nat) (Option.some Jvm.ClassFile.FieldType.int)) ∈ lw_all := lw_g (lw_at lw_m8 87 rfl) rfl
theorem q1867 : (Jvm.Cond.instanceMethod ({ cls := "OpenGatesModel", name := "asks", desc := "(III)I" } : Jvm.MethodName)) ∈ lw_all := lw_g (lw_at lw_m8 89 rfl) rfl
theorem q1868 : (Jvm.Cond.selects "OpenGatesModel" ({ cls := "OpenGatesModel", name := "asks", desc := "(III)I" } : Jvm.MethodName) ({ cls := "OpenGatesModel", name := "asks", desc := "(III)I" } : Jvm.MethodName)) ∈ lw_all := lw_g (lw_at lw_m8 90 rfl) rfl
theorem q1869 : (Jvm.Cond.code ({ cls := "OpenGatesModel", name := "asks", desc := "(III)I" } : Jvm.MethodName) prog_22_method_69_code (4 : Nat) (Option.some Jvm.ClassFile.FieldType.int)) ∈ lw_all := lw_g (lw_at lw_m8 91 rfl) rfl
theorem q1870 : (Jvm.Cond.methodLink "OpenGatesModel" (410 : Nat) ({ cls := "OpenGatesModel", name := "paysOf", desc := "(II)I" } : Jvm.MethodName)) ∈ lw_all := lw_g (lw_at lw_m8 92 rfl) rfl
theorem q1871 : (Jvm.Cond.privateMethod ({ cls := "OpenGatesModel", name := "paysOf", desc := "(II)I" } : Jvm.MethodName)) ∈ lw_tbl := lw_at lw_m8 93 rfl
theorem q1872 : (Jvm.Cond.instanceMethod ({ cls := "OpenGatesModel", name := "paysOf", desc := "(II)I" } : Jvm.MethodName)) ∈ lw_all := lw_g (lw_at lw_m8 94 rfl) rfl
theorem q1873 : (Jvm.Cond.code ({ cls := "OpenGatesModel", name := "paysOf", desc := "(II)I" } : Jvm.MethodName) prog_22_method_65_code (3 : Nat) (Option.some Jvm.ClassFile.FieldType.int)) ∈ lw_all := lw_g (lw_at lw_m8 95 rfl) rfl
theorem q1874 : (Jvm.Cond.methodLink "OpenGatesModel" (393 : Nat) ({ cls := "OpenGatesModel", name := "tells", desc := "(IIIIIIJ)J" } : Jvm.MethodName)) ∈ lw_all := lw_g (lw_at lw_m8 96 rfl) rfl
theorem q1875 : (Jvm.Cond.privateMethod ({ cls := "OpenGatesModel", name := "tells", desc := "(IIIIIIJ)J" } : Jvm.MethodName)) ∈ lw_tbl := lw_at lw_m8 97 rfl
theorem q1876 : (Jvm.Cond.instanceMethod ({ cls := "OpenGatesModel", name := "tells", desc := "(IIIIIIJ)J" } : Jvm.MethodName)) ∈ lw_all := lw_g (lw_at lw_m8 98 rfl) rfl
theorem q1877 : (Jvm.Cond.code ({ cls := "OpenGatesModel", name := "tells", desc := "(IIIIIIJ)J" } : Jvm.MethodName) prog_22_method_64_code (13 : Nat) (Option.some Jvm.ClassFile.FieldType.long)) ∈ lw_all := lw_g (lw_at lw_m8 99 rfl) rfl
theorem q1878 : (Jvm.Cond.methodLink "OpenGatesModel" (390 : Nat) ({ cls := "OpenGatesModel", name := "isSo", desc := "(I)Z" } : Jvm.MethodName)) ∈ lw_all := lw_g (lw_at lw_m8 100 rfl) rfl
theorem q1879 : (Jvm.Cond.privateMethod ({ cls := "OpenGatesModel", name := "isSo", desc := "(I)Z" } : Jvm.MethodName)) ∈ lw_tbl := lw_at lw_m8 101 rfl
theorem q1880 : (Jvm.Cond.instanceMethod ({ cls := "OpenGatesModel", name := "isSo", desc := "(I)Z" } : Jvm.MethodName)) ∈ lw_all := lw_g (lw_at lw_m8 102 rfl) rfl
theorem q1881 : (Jvm.Cond.code ({ cls := "OpenGatesModel", name := "isSo", desc := "(I)Z" } : Jvm.MethodName) prog_22_method_63_code (2 : Nat) (Option.some Jvm.ClassFile.FieldType.boolean)) ∈ lw_all := lw_g (lw_at lw_m8 103 rfl) rfl
theorem q1882 : (Jvm.Cond.methodLink "OpenGatesModel" (384 : Nat) ({ cls := "OpenGatesModel", name := "reckonAll", desc := "(II)V" } : Jvm.MethodName)) ∈ lw_all := lw_g (lw_at lw_m8 104 rfl) rfl
theorem q1883 : (Jvm.Cond.privateMethod ({ cls := "OpenGatesModel", name := "reckonAll", desc := "(II)V" } : Jvm.MethodName)) ∈ lw_tbl := lw_at lw_m8 105 rfl
theorem q1884 : (Jvm.Cond.instanceMethod ({ cls := "OpenGatesModel", name := "reckonAll", desc := "(II)V" } : Jvm.MethodName)) ∈ lw_all := lw_g (lw_at lw_m8 106 rfl) rfl
theorem q1885 : (Jvm.Cond.code ({ cls := "OpenGatesModel", name := "reckonAll", desc := "(II)V" } : Jvm.MethodName) prog_22_method_62_code (7 : Nat) (Option.none : Option Jvm.ClassFile.FieldType)) ∈ lw_all := lw_g (lw_at lw_m8 107 rfl) rfl
theorem q1886 : (Jvm.Cond.methodLink "OpenGatesModel" (373 : Nat) ({ cls := "OpenGatesModel", name := "reckon", desc := "(IJJ)J" } : Jvm.MethodName)) ∈ lw_all := lw_g (lw_at lw_m8 108 rfl) rfl
theorem q1887 : (Jvm.Cond.privateMethod ({ cls := "OpenGatesModel", name := "reckon", desc := "(IJJ)J" } : Jvm.MethodName)) ∈ lw_tbl := lw_at lw_m8 109 rfl
theorem q1888 : (Jvm.Cond.instanceMethod ({ cls := "OpenGatesModel", name := "reckon", desc := "(IJJ)J" } : Jvm.MethodName)) ∈ lw_all := lw_g (lw_at lw_m8 110 rfl) rfl
theorem q1889 : (Jvm.Cond.code ({ cls := "OpenGatesModel", name := "reckon", desc := "(IJJ)J" } : Jvm.MethodName) prog_22_method_61_code (6 : Nat) (Option.some Jvm.ClassFile.FieldType.long)) ∈ lw_all := lw_g (lw_at lw_m8 111 rfl) rfl
theorem q1890 : (Jvm.Cond.constantLong "OpenGatesModel" (377 : Nat) (-1000000000 : Int64)) ∈ lw_all := lw_g (lw_at lw_m8 112 rfl) rfl
theorem q1891 : (Jvm.Cond.constantLong "OpenGatesModel" (379 : Nat) (1000000000 : Int64)) ∈ lw_all := lw_g (lw_at lw_m8 113 rfl) rfl
theorem q1892 : (Jvm.Cond.methodLink "OpenGatesModel" (397 : Nat) ({ cls := "OpenGatesModel", name := "within", desc := "(JII)I" } : Jvm.MethodName)) ∈ lw_all := lw_g (lw_at lw_m8 114 rfl) rfl
theorem q1893 : (Jvm.Cond.static ({ cls := "OpenGatesModel", name := "within", desc := "(JII)I" } : Jvm.MethodName)) ∈ lw_all := lw_g (lw_at lw_m8 115 rfl) rfl
theorem q1894 : (Jvm.Cond.code ({ cls := "OpenGatesModel", name := "within", desc := "(JII)I" } : Jvm.MethodName) prog_22_method_6_code (4 : Nat) (Option.some Jvm.ClassFile.FieldType.int)) ∈ lw_all := lw_g (lw_at lw_m8 116 rfl) rfl
theorem q1895 : (Jvm.Cond.methodLink "OpenGatesModel" (413 : Nat) ({ cls := "OpenGatesModel", name := "isBarred", desc := "(II)Z" } : Jvm.MethodName)) ∈ lw_all := lw_g (lw_at lw_m8 117 rfl) rfl
theorem q1896 : (Jvm.Cond.privateMethod ({ cls := "OpenGatesModel", name := "isBarred", desc := "(II)Z" } : Jvm.MethodName)) ∈ lw_tbl := lw_at lw_m8 118 rfl
theorem q1897 : (Jvm.Cond.instanceMethod ({ cls := "OpenGatesModel", name := "isBarred", desc := "(II)Z" } : Jvm.MethodName)) ∈ lw_all := lw_g (lw_at lw_m8 119 rfl) rfl
theorem q1898 : (Jvm.Cond.code ({ cls := "OpenGatesModel", name := "isBarred", desc := "(II)Z" } : Jvm.MethodName) prog_22_method_66_code (3 : Nat) (Option.some Jvm.ClassFile.FieldType.boolean)) ∈ lw_all := lw_g (lw_at lw_m8 120 rfl) rfl
theorem q1899 : (Jvm.Cond.methodLink "OpenGatesModel" (406 : Nat) ({ cls := "OpenGatesModel", name := "turnsAt", desc := "(III)I" } : Jvm.MethodName)) ∈ lw_all := lw_g (lw_at lw_m8 121 rfl) rfl
theorem q1900 : (Jvm.Cond.privateMethod ({ cls := "OpenGatesModel", name := "turnsAt", desc := "(III)I" } : Jvm.MethodName)) ∈ lw_tbl := lw_at lw_m8 122 rfl
theorem q1901 : (Jvm.Cond.instanceMethod ({ cls := "OpenGatesModel", name := "turnsAt", desc := "(III)I" } : Jvm.MethodName)) ∈ lw_all := lw_g (lw_at lw_m8 123 rfl) rfl
theorem q1902 : (Jvm.Cond.code ({ cls := "OpenGatesModel", name := "turnsAt", desc := "(III)I" } : Jvm.MethodName) prog_22_method_67_code (4 : Nat) (Option.some Jvm.ClassFile.FieldType.int)) ∈ lw_all := lw_g (lw_at lw_m8 124 rfl) rfl
theorem q1903 : (Jvm.Cond.methodLink "OpenGatesModel" (401 : Nat) ({ cls := "OpenGatesModel", name := "hundredths", desc := "(II)I" } : Jvm.MethodName)) ∈ lw_all := lw_g (lw_at lw_m8 125 rfl) rfl
theorem q1904 : (Jvm.Cond.privateMethod ({ cls := "OpenGatesModel", name := "hundredths", desc := "(II)I" } : Jvm.MethodName)) ∈ lw_tbl := lw_at lw_m8 126 rfl
theorem q1905 : (Jvm.Cond.instanceMethod ({ cls := "OpenGatesModel", name := "hundredths", desc := "(II)I" } : Jvm.MethodName)) ∈ lw_all := lw_g (lw_at lw_m8 127 rfl) rfl
theorem q1906 : (Jvm.Cond.code ({ cls := "OpenGatesModel", name := "hundredths", desc := "(II)I" } : Jvm.MethodName) prog_22_method_19_code (3 : Nat) (Option.some Jvm.ClassFile.FieldType.int)) ∈ lw_all := lw_g (lw_at lw_m8 128 rfl) rfl
theorem q1907 : (Jvm.Cond.constantLong "OpenGatesModel" (185 : Nat) (10000 : Int64)) ∈ lw_all := lw_g (lw_at lw_m8 129 rfl) rfl
theorem q1908 : (Jvm.Cond.constantLong "OpenGatesModel" (404 : Nat) (50 : Int64)) ∈ lw_all := lw_g (lw_at lw_m8 130 rfl) rfl
theorem q1909 : (Jvm.Cond.methodLink "OpenGatesModel" (416 : Nat) ({ cls := "OpenGatesModel", name := "isTurned", desc := "(III)Z" } : Jvm.MethodName)) ∈ lw_all := lw_g (lw_at lw_m8 131 rfl) rfl
theorem q1910 : (Jvm.Cond.privateMethod ({ cls := "OpenGatesModel", name := "isTurned", desc := "(III)Z" } : Jvm.MethodName)) ∈ lw_tbl := lw_at lw_m8 132 rfl
theorem q1911 : (Jvm.Cond.instanceMethod ({ cls := "OpenGatesModel", name := "isTurned", desc := "(III)Z" } : Jvm.MethodName)) ∈ lw_all := lw_g (lw_at lw_m8 133 rfl) rfl
theorem q1912 : (Jvm.Cond.code ({ cls := "OpenGatesModel", name := "isTurned", desc := "(III)Z" } : Jvm.MethodName) prog_22_method_68_code (4 : Nat) (Option.some Jvm.ClassFile.FieldType.boolean)) ∈ lw_all := lw_g (lw_at lw_m8 134 rfl) rfl
theorem q1914 : (Jvm.Cond.instanceMethod ({ cls := "OpenGatesModel", name := "show", desc := "(II)I" } : Jvm.MethodName)) ∈ lw_all := lw_g (lw_at lw_m8 136 rfl) rfl
theorem q1915 : (Jvm.Cond.selects "OpenGatesModel" ({ cls := "OpenGatesModel", name := "show", desc := "(II)I" } : Jvm.MethodName) ({ cls := "OpenGatesModel", name := "show", desc := "(II)I" } : Jvm.MethodName)) ∈ lw_all := lw_g (lw_at lw_m8 137 rfl) rfl
theorem q1916 : (Jvm.Cond.code ({ cls := "OpenGatesModel", name := "show", desc := "(II)I" } : Jvm.MethodName) prog_22_method_72_code (3 : Nat) (Option.some Jvm.ClassFile.FieldType.int)) ∈ lw_all := lw_g (lw_at lw_m8 138 rfl) rfl
theorem q1917 : (Jvm.Cond.methodLink "OpenGatesModel" (426 : Nat) ({ cls := "OpenGatesModel", name := "showNow", desc := "(II)I" } : Jvm.MethodName)) ∈ lw_all := lw_g (lw_at lw_m8 139 rfl) rfl
theorem q1918 : (Jvm.Cond.privateMethod ({ cls := "OpenGatesModel", name := "showNow", desc := "(II)I" } : Jvm.MethodName)) ∈ lw_tbl := lw_at lw_m8 140 rfl
theorem q1919 : (Jvm.Cond.instanceMethod ({ cls := "OpenGatesModel", name := "showNow", desc := "(II)I" } : Jvm.MethodName)) ∈ lw_all := lw_g (lw_at lw_m8 141 rfl) rfl
theorem q1920 : (Jvm.Cond.code ({ cls := "OpenGatesModel", name := "showNow", desc := "(II)I" } : Jvm.MethodName) prog_22_method_71_code (4 : Nat) (Option.some Jvm.ClassFile.FieldType.int)) ∈ lw_all := lw_g (lw_at lw_m8 142 rfl) rfl
theorem q1921 : (Jvm.Cond.methodLink "OpenGatesModel" (420 : Nat) ({ cls := "OpenGatesModel", name := "canShow", desc := "(II)Z" } : Jvm.MethodName)) ∈ lw_all := lw_g (lw_at lw_m8 143 rfl) rfl
theorem q1922 : (Jvm.Cond.privateMethod ({ cls := "OpenGatesModel", name := "canShow", desc := "(II)Z" } : Jvm.MethodName)) ∈ lw_tbl := lw_at lw_m8 144 rfl
theorem q1923 : (Jvm.Cond.instanceMethod ({ cls := "OpenGatesModel", name := "canShow", desc := "(II)Z" } : Jvm.MethodName)) ∈ lw_all := lw_g (lw_at lw_m8 145 rfl) rfl
theorem q1924 : (Jvm.Cond.code ({ cls := "OpenGatesModel", name := "canShow", desc := "(II)Z" } : Jvm.MethodName) prog_22_method_70_code (3 : Nat) (Option.some Jvm.ClassFile.FieldType.boolean)) ∈ lw_all := lw_g (lw_at lw_m8 146 rfl) rfl
theorem q1925 : (Jvm.Cond.methodLink "OpenGatesModel" (423 : Nat) ({ cls := "OpenGatesModel", name := "remember", desc := "(I)V" } : Jvm.MethodName)) ∈ lw_all := lw_g (lw_at lw_m8 147 rfl) rfl
theorem q1926 : (Jvm.Cond.privateMethod ({ cls := "OpenGatesModel", name := "remember", desc := "(I)V" } : Jvm.MethodName)) ∈ lw_tbl := lw_at lw_m8 148 rfl
theorem q1927 : (Jvm.Cond.instanceMethod ({ cls := "OpenGatesModel", name := "remember", desc := "(I)V" } : Jvm.MethodName)) ∈ lw_all := lw_g (lw_at lw_m8 149 rfl) rfl
theorem q1928 : (Jvm.Cond.code ({ cls := "OpenGatesModel", name := "remember", desc := "(I)V" } : Jvm.MethodName) prog_22_method_11_code (3 : Nat) (Option.none : Option Jvm.ClassFile.FieldType)) ∈ lw_all := lw_g (lw_at lw_m8 150 rfl) rfl
theorem q1929 : (Jvm.Cond.methodLink "OpenGatesModel" (151 : Nat) ({ cls := "OpenGatesModel", name := "keepAll", desc := "(I)V" } : Jvm.MethodName)) ∈ lw_all := lw_g (lw_at lw_m8 151 rfl) rfl
theorem q1930 : (Jvm.Cond.privateMethod ({ cls := "OpenGatesModel", name := "keepAll", desc := "(I)V" } : Jvm.MethodName)) ∈ lw_tbl := lw_at lw_m8 152 rfl
theorem q1931 : (Jvm.Cond.instanceMethod ({ cls := "OpenGatesModel", name := "keepAll", desc := "(I)V" } : Jvm.MethodName)) ∈ lw_all := lw_g (lw_at lw_m8 153 rfl) rfl
theorem q1932 : (Jvm.Cond.code ({ cls := "OpenGatesModel", name := "keepAll", desc := "(I)V" } : Jvm.MethodName) prog_22_method_9_code (3 : Nat) (Option.none : Option Jvm.ClassFile.FieldType)) ∈ lw_all := lw_g (lw_at lw_m8 154 rfl) rfl
theorem q1934 : (Jvm.Cond.instanceMethod ({ cls := "OpenGatesModel", name := "hide", desc := "(II)I" } : Jvm.MethodName)) ∈ lw_all := lw_g (lw_at lw_m8 156 rfl) rfl
theorem q1935 : (Jvm.Cond.selects "OpenGatesModel" ({ cls := "OpenGatesModel", name := "hide", desc := "(II)I" } : Jvm.MethodName) ({ cls := "OpenGatesModel", name := "hide", desc := "(II)I" } : Jvm.MethodName)) ∈ lw_all := lw_g (lw_at lw_m8 157 rfl) rfl
theorem q1936 : (Jvm.Cond.code ({ cls := "OpenGatesModel", name := "hide", desc := "(II)I" } : Jvm.MethodName) prog_22_method_74_code (3 : Nat) (Option.some Jvm.ClassFile.FieldType.int)) ∈ lw_all := lw_g (lw_at lw_m8 158 rfl) rfl
theorem q1937 : (Jvm.Cond.methodLink "OpenGatesModel" (429 : Nat) ({ cls := "OpenGatesModel", name := "hideNow", desc := "(II)I" } : Jvm.MethodName)) ∈ lw_all := lw_g (lw_at lw_m8 159 rfl) rfl
theorem q1938 : (Jvm.Cond.privateMethod ({ cls := "OpenGatesModel", name := "hideNow", desc := "(II)I" } : Jvm.MethodName)) ∈ lw_tbl := lw_at lw_m8 160 rfl
theorem q1939 : (Jvm.Cond.instanceMethod ({ cls := "OpenGatesModel", name := "hideNow", desc := "(II)I" } : Jvm.MethodName)) ∈ lw_all := lw_g (lw_at lw_m8 161 rfl) rfl
theorem q1940 : (Jvm.Cond.code ({ cls := "OpenGatesModel", name := "hideNow", desc := "(II)I" } : Jvm.MethodName) prog_22_method_73_code (3 : Nat) (Option.some Jvm.ClassFile.FieldType.int)) ∈ lw_all := lw_g (lw_at lw_m8 162 rfl) rfl
theorem q1942 : (Jvm.Cond.instanceMethod ({ cls := "OpenGatesModel", name := "man", desc := "(II)I" } : Jvm.MethodName)) ∈ lw_all := lw_g (lw_at lw_m8 164 rfl) rfl
theorem q1943 : (Jvm.Cond.selects "OpenGatesModel" ({ cls := "OpenGatesModel", name := "man", desc := "(II)I" } : Jvm.MethodName) ({ cls := "OpenGatesModel", name := "man", desc := "(II)I" } : Jvm.MethodName)) ∈ lw_all := lw_g (lw_at lw_m8 165 rfl) rfl
theorem q1944 : (Jvm.Cond.code ({ cls := "OpenGatesModel", name := "man", desc := "(II)I" } : Jvm.MethodName) prog_22_method_76_code (3 : Nat) (Option.some Jvm.ClassFile.FieldType.int)) ∈ lw_all := lw_g (lw_at lw_m8 166 rfl) rfl
theorem q1945 : (Jvm.Cond.methodLink "OpenGatesModel" (434 : Nat) ({ cls := "OpenGatesModel", name := "manNow", desc := "(II)I" } : Jvm.MethodName)) ∈ lw_all := lw_g (lw_at lw_m8 167 rfl) rfl
theorem q1946 : (Jvm.Cond.privateMethod ({ cls := "OpenGatesModel", name := "manNow", desc := "(II)I" } : Jvm.MethodName)) ∈ lw_tbl := lw_at lw_m8 168 rfl
theorem q1947 : (Jvm.Cond.instanceMethod ({ cls := "OpenGatesModel", name := "manNow", desc := "(II)I" } : Jvm.MethodName)) ∈ lw_all := lw_g (lw_at lw_m8 169 rfl) rfl
theorem q1948 : (Jvm.Cond.code ({ cls := "OpenGatesModel", name := "manNow", desc := "(II)I" } : Jvm.MethodName) prog_22_method_75_code (3 : Nat) (Option.some Jvm.ClassFile.FieldType.int)) ∈ lw_all := lw_g (lw_at lw_m8 170 rfl) rfl
theorem q1949 : (Jvm.Cond.constantLong "OpenGatesModel" (432 : Nat) (-99 : Int64)) ∈ lw_all := lw_g (lw_at lw_m8 171 rfl) rfl
theorem q1951 : (Jvm.Cond.instanceMethod ({ cls := "OpenGatesModel", name := "march", desc := "(II)I" } : Jvm.MethodName)) ∈ lw_all := lw_g (lw_at lw_m8 173 rfl) rfl
theorem q1952 : (Jvm.Cond.selects "OpenGatesModel" ({ cls := "OpenGatesModel", name := "march", desc := "(II)I" } : Jvm.MethodName) ({ cls := "OpenGatesModel", name := "march", desc := "(II)I" } : Jvm.MethodName)) ∈ lw_all := lw_g (lw_at lw_m8 174 rfl) rfl
theorem q1953 : (Jvm.Cond.code ({ cls := "OpenGatesModel", name := "march", desc := "(II)I" } : Jvm.MethodName) prog_22_method_80_code (3 : Nat) (Option.some Jvm.ClassFile.FieldType.int)) ∈ lw_all := lw_g (lw_at lw_m8 175 rfl) rfl
theorem q1954 : (Jvm.Cond.methodLink "OpenGatesModel" (443 : Nat) ({ cls := "OpenGatesModel", name := "marchNow", desc := "(II)I" } : Jvm.MethodName)) ∈ lw_all := lw_g (lw_at lw_m8 176 rfl) rfl
theorem q1955 : (Jvm.Cond.privateMethod ({ cls := "OpenGatesModel", name := "marchNow", desc := "(II)I" } : Jvm.MethodName)) ∈ lw_tbl := lw_at lw_m8 177 rfl
theorem q1956 : (Jvm.Cond.instanceMethod ({ cls := "OpenGatesModel", name := "marchNow", desc := "(II)I" } : Jvm.MethodName)) ∈ lw_all := lw_g (lw_at lw_m8 178 rfl) rfl
theorem q1957 : (Jvm.Cond.code ({ cls := "OpenGatesModel", name := "marchNow", desc := "(II)I" } : Jvm.MethodName) prog_22_method_79_code (3 : Nat) (Option.some Jvm.ClassFile.FieldType.int)) ∈ lw_all := lw_g (lw_at lw_m8 179 rfl) rfl
theorem q1958 : (Jvm.Cond.methodLink "OpenGatesModel" (437 : Nat) ({ cls := "OpenGatesModel", name := "canMarch", desc := "(I)Z" } : Jvm.MethodName)) ∈ lw_all := lw_g (lw_at lw_m8 180 rfl) rfl
theorem q1959 : (Jvm.Cond.privateMethod ({ cls := "OpenGatesModel", name := "canMarch", desc := "(I)Z" } : Jvm.MethodName)) ∈ lw_tbl := lw_at lw_m8 181 rfl
theorem q1960 : (Jvm.Cond.instanceMethod ({ cls := "OpenGatesModel", name := "canMarch", desc := "(I)Z" } : Jvm.MethodName)) ∈ lw_all := lw_g (lw_at lw_m8 182 rfl) rfl
theorem q1961 : (Jvm.Cond.code ({ cls := "OpenGatesModel", name := "canMarch", desc := "(I)Z" } : Jvm.MethodName) prog_22_method_77_code (2 : Nat) (Option.some Jvm.ClassFile.FieldType.boolean)) ∈ lw_all := lw_g (lw_at lw_m8 183 rfl) rfl
theorem q1962 : (Jvm.Cond.methodLink "OpenGatesModel" (440 : Nat) ({ cls := "OpenGatesModel", name := "marchIt", desc := "(II)I" } : Jvm.MethodName)) ∈ lw_all := lw_g (lw_at lw_m8 184 rfl) rfl
theorem q1963 : (Jvm.Cond.privateMethod ({ cls := "OpenGatesModel", name := "marchIt", desc := "(II)I" } : Jvm.MethodName)) ∈ lw_tbl := lw_at lw_m8 185 rfl
theorem q1964 : (Jvm.Cond.instanceMethod ({ cls := "OpenGatesModel", name := "marchIt", desc := "(II)I" } : Jvm.MethodName)) ∈ lw_all := lw_g (lw_at lw_m8 186 rfl) rfl
theorem q1965 : (Jvm.Cond.code ({ cls := "OpenGatesModel", name := "marchIt", desc := "(II)I" } : Jvm.MethodName) prog_22_method_78_code (6 : Nat) (Option.some Jvm.ClassFile.FieldType.int)) ∈ lw_all := lw_g (lw_at lw_m8 187 rfl) rfl
theorem q1967 : (Jvm.Cond.instanceMethod ({ cls := "OpenGatesModel", name := "bluff", desc := "(III)I" } : Jvm.MethodName)) ∈ lw_all := lw_g (lw_at lw_m8 189 rfl) rfl
theorem q1968 : (Jvm.Cond.selects "OpenGatesModel" ({ cls := "OpenGatesModel", name := "bluff", desc := "(III)I" } : Jvm.MethodName) ({ cls := "OpenGatesModel", name := "bluff", desc := "(III)I" } : Jvm.MethodName)) ∈ lw_all := lw_g (lw_at lw_m8 190 rfl) rfl
theorem q1969 : (Jvm.Cond.code ({ cls := "OpenGatesModel", name := "bluff", desc := "(III)I" } : Jvm.MethodName) prog_22_method_81_code (10 : Nat) (Option.some Jvm.ClassFile.FieldType.int)) ∈ lw_all := lw_g (lw_at lw_m8 191 rfl) rfl
theorem q1970 : (Jvm.Cond.constant "OpenGatesModel" (446 : Nat) (100000000 : Int32)) ∈ lw_all := lw_g (lw_at lw_m8 192 rfl) rfl
theorem q1972 : (Jvm.Cond.instanceMethod ({ cls := "OpenGatesModel", name := "scout", desc := "(II)I" } : Jvm.MethodName)) ∈ lw_all := lw_g (lw_at lw_m8 194 rfl) rfl
theorem q1973 : (Jvm.Cond.selects "OpenGatesModel" ({ cls := "OpenGatesModel", name := "scout", desc := "(II)I" } : Jvm.MethodName) ({ cls := "OpenGatesModel", name := "scout", desc := "(II)I" } : Jvm.MethodName)) ∈ lw_all := lw_g (lw_at lw_m8 195 rfl) rfl
theorem q1974 : (Jvm.Cond.code ({ cls := "OpenGatesModel", name := "scout", desc := "(II)I" } : Jvm.MethodName) prog_22_method_82_code (8 : Nat) (Option.some Jvm.ClassFile.FieldType.int)) ∈ lw_all := lw_g (lw_at lw_m8 196 rfl) rfl
theorem q1976 : (Jvm.Cond.instanceMethod ({ cls := "OpenGatesModel", name := "holds", desc := "(II)J" } : Jvm.MethodName)) ∈ lw_all := lw_g (lw_at lw_m8 198 rfl) rfl
theorem q1977 : (Jvm.Cond.selects "OpenGatesModel" ({ cls := "OpenGatesModel", name := "holds", desc := "(II)J" } : Jvm.MethodName) ({ cls := "OpenGatesModel", name := "holds", desc := "(II)J" } : Jvm.MethodName)) ∈ lw_all := lw_g (lw_at lw_m8 199 rfl) rfl
theorem q1978 : (Jvm.Cond.code ({ cls := "OpenGatesModel", name := "holds", desc := "(II)J" } : Jvm.MethodName) prog_22_method_83_code (7 : Nat) (Option.some Jvm.ClassFile.FieldType.long)) ∈ lw_all := lw_g (lw_at lw_m8 200 rfl) rfl
theorem q1979 : (Jvm.Cond.constantLong "OpenGatesModel" (447 : Nat) (30 : Int64)) ∈ lw_all := lw_g (lw_at lw_m8 201 rfl) rfl
theorem q1980 : (Jvm.Cond.constantLong "OpenGatesModel" (449 : Nat) (1000000000000 : Int64)) ∈ lw_all := lw_g (lw_at lw_m8 202 rfl) rfl
theorem q1982 : (Jvm.Cond.instanceMethod ({ cls := "OpenGatesModel", name := "retreat", desc := "(III)I" } : Jvm.MethodName)) ∈ lw_all := lw_g (lw_at lw_m8 204 rfl) rfl
theorem q1983 : (Jvm.Cond.selects "OpenGatesModel" ({ cls := "OpenGatesModel", name := "retreat", desc := "(III)I" } : Jvm.MethodName) ({ cls := "OpenGatesModel", name := "retreat", desc := "(III)I" } : Jvm.MethodName)) ∈ lw_all := lw_g (lw_at lw_m8 205 rfl) rfl
theorem q1984 : (Jvm.Cond.code ({ cls := "OpenGatesModel", name := "retreat", desc := "(III)I" } : Jvm.MethodName) prog_22_method_86_code (7 : Nat) (Option.some Jvm.ClassFile.FieldType.int)) ∈ lw_all := lw_g (lw_at lw_m8 206 rfl) rfl
theorem q1985 : (Jvm.Cond.methodLink "OpenGatesModel" (454 : Nat) ({ cls := "OpenGatesModel", name := "layHours", desc := "(II)V" } : Jvm.MethodName)) ∈ lw_all := lw_g (lw_at lw_m8 207 rfl) rfl
theorem q1986 : (Jvm.Cond.privateMethod ({ cls := "OpenGatesModel", name := "layHours", desc := "(II)V" } : Jvm.MethodName)) ∈ lw_tbl := lw_at lw_m8 208 rfl
theorem q1987 : (Jvm.Cond.instanceMethod ({ cls := "OpenGatesModel", name := "layHours", desc := "(II)V" } : Jvm.MethodName)) ∈ lw_all := lw_g (lw_at lw_m8 209 rfl) rfl
theorem q1988 : (Jvm.Cond.code ({ cls := "OpenGatesModel", name := "layHours", desc := "(II)V" } : Jvm.MethodName) prog_22_method_85_code (8 : Nat) (Option.none : Option Jvm.ClassFile.FieldType)) ∈ lw_all := lw_g (lw_at lw_m8 210 rfl) rfl
theorem q1989 : (Jvm.Cond.methodLink "OpenGatesModel" (451 : Nat) ({ cls := "OpenGatesModel", name := "hoursBy", desc := "(III)I" } : Jvm.MethodName)) ∈ lw_all := lw_g (lw_at lw_m8 211 rfl) rfl
theorem q1990 : (Jvm.Cond.privateMethod ({ cls := "OpenGatesModel", name := "hoursBy", desc := "(III)I" } : Jvm.MethodName)) ∈ lw_tbl := lw_at lw_m8 212 rfl
theorem q1991 : (Jvm.Cond.instanceMethod ({ cls := "OpenGatesModel", name := "hoursBy", desc := "(III)I" } : Jvm.MethodName)) ∈ lw_all := lw_g (lw_at lw_m8 213 rfl) rfl
theorem q1992 : (Jvm.Cond.code ({ cls := "OpenGatesModel", name := "hoursBy", desc := "(III)I" } : Jvm.MethodName) prog_22_method_84_code (6 : Nat) (Option.some Jvm.ClassFile.FieldType.int)) ∈ lw_all := lw_g (lw_at lw_m8 214 rfl) rfl
theorem q1994 : (Jvm.Cond.instanceMethod ({ cls := "OpenGatesModel", name := "game", desc := "(IIIII)I" } : Jvm.MethodName)) ∈ lw_all := lw_g (lw_at lw_m8 216 rfl) rfl
theorem q1995 : (Jvm.Cond.selects "OpenGatesModel" ({ cls := "OpenGatesModel", name := "game", desc := "(IIIII)I" } : Jvm.MethodName) ({ cls := "OpenGatesModel", name := "game", desc := "(IIIII)I" } : Jvm.MethodName)) ∈ lw_all := lw_g (lw_at lw_m8 217 rfl) rfl
theorem q1996 : (Jvm.Cond.code ({ cls := "OpenGatesModel", name := "game", desc := "(IIIII)I" } : Jvm.MethodName) prog_22_method_89_code (11 : Nat) (Option.some Jvm.ClassFile.FieldType.int)) ∈ lw_all := lw_g (lw_at lw_m8 218 rfl) rfl
theorem q1997 : (Jvm.Cond.constant "OpenGatesModel" (460 : Nat) (-100000 : Int32)) ∈ lw_all := lw_g (lw_at lw_m8 219 rfl) rfl
theorem q1998 : (Jvm.Cond.methodLink "OpenGatesModel" (461 : Nat) ({ cls := "OpenGatesModel", name := "lowest", desc := "(IIZ)I" } : Jvm.MethodName)) ∈ lw_all := lw_g (lw_at lw_m8 220 rfl) rfl
theorem q1999 : (Jvm.Cond.static ({ cls := "OpenGatesModel", name := "lowest", desc := "(IIZ)I" } : Jvm.MethodName)) ∈ lw_all := lw_g (lw_at lw_m8 221 rfl) rfl
theorem q2000 : (Jvm.Cond.code ({ cls := "OpenGatesModel", name := "lowest", desc := "(IIZ)I" } : Jvm.MethodName) prog_22_method_88_code (5 : Nat) (Option.some Jvm.ClassFile.FieldType.int)) ∈ lw_all := lw_g (lw_at lw_m8 222 rfl) rfl
theorem q2001 : (Jvm.Cond.methodLink "OpenGatesModel" (457 : Nat) ({ cls := "OpenGatesModel", name := "common", desc := "(II)I" } : Jvm.MethodName)) ∈ lw_all := lw_g (lw_at lw_m8 223 rfl) rfl
theorem q2002 : (Jvm.Cond.static ({ cls := "OpenGatesModel", name := "common", desc := "(II)I" } : Jvm.MethodName)) ∈ lw_all := lw_g (lw_at lw_m8 224 rfl) rfl
theorem q2003 : (Jvm.Cond.code ({ cls := "OpenGatesModel", name := "common", desc := "(II)I" } : Jvm.MethodName) prog_22_method_87_code (5 : Nat) (Option.some Jvm.ClassFile.FieldType.int)) ∈ lw_all := lw_g (lw_at lw_m8 225 rfl) rfl
theorem q2005 : (Jvm.Cond.instanceMethod ({ cls := "OpenGatesModel", name := "siege", desc := "(III)I" } : Jvm.MethodName)) ∈ lw_all := lw_g (lw_at lw_m8 227 rfl) rfl
theorem q2006 : (Jvm.Cond.selects "OpenGatesModel" ({ cls := "OpenGatesModel", name := "siege", desc := "(III)I" } : Jvm.MethodName) ({ cls := "OpenGatesModel", name := "siege", desc := "(III)I" } : Jvm.MethodName)) ∈ lw_all := lw_g (lw_at lw_m8 228 rfl) rfl
theorem q2007 : (Jvm.Cond.code ({ cls := "OpenGatesModel", name := "siege", desc := "(III)I" } : Jvm.MethodName) prog_22_method_90_code (5 : Nat) (Option.some Jvm.ClassFile.FieldType.int)) ∈ lw_all := lw_g (lw_at lw_m8 229 rfl) rfl
theorem q2009 : (Jvm.Cond.instanceMethod ({ cls := "OpenGatesModel", name := "career", desc := "(II)I" } : Jvm.MethodName)) ∈ lw_all := lw_g (lw_at lw_m8 231 rfl) rfl
theorem q2010 : (Jvm.Cond.selects "OpenGatesModel" ({ cls := "OpenGatesModel", name := "career", desc := "(II)I" } : Jvm.MethodName) ({ cls := "OpenGatesModel", name := "career", desc := "(II)I" } : Jvm.MethodName)) ∈ lw_all := lw_g (lw_at lw_m8 232 rfl) rfl
theorem q2011 : (Jvm.Cond.code ({ cls := "OpenGatesModel", name := "career", desc := "(II)I" } : Jvm.MethodName) prog_22_method_93_code (7 : Nat) (Option.some Jvm.ClassFile.FieldType.int)) ∈ lw_all := lw_g (lw_at lw_m8 233 rfl) rfl
theorem q2012 : (Jvm.Cond.methodLink "OpenGatesModel" (465 : Nat) ({ cls := "OpenGatesModel", name := "careful", desc := "(II)I" } : Jvm.MethodName)) ∈ lw_all := lw_g (lw_at lw_m8 234 rfl) rfl
theorem q2013 : (Jvm.Cond.privateMethod ({ cls := "OpenGatesModel", name := "careful", desc := "(II)I" } : Jvm.MethodName)) ∈ lw_tbl := lw_at lw_m8 235 rfl
theorem q2014 : (Jvm.Cond.instanceMethod ({ cls := "OpenGatesModel", name := "careful", desc := "(II)I" } : Jvm.MethodName)) ∈ lw_all := lw_g (lw_at lw_m8 236 rfl) rfl
theorem q2015 : (Jvm.Cond.code ({ cls := "OpenGatesModel", name := "careful", desc := "(II)I" } : Jvm.MethodName) prog_22_method_91_code (3 : Nat) (Option.some Jvm.ClassFile.FieldType.int)) ∈ lw_all := lw_g (lw_at lw_m8 237 rfl) rfl
theorem q2016 : (Jvm.Cond.methodLink "OpenGatesModel" (468 : Nat) ({ cls := "OpenGatesModel", name := "bold", desc := "(II)I" } : Jvm.MethodName)) ∈ lw_all := lw_g (lw_at lw_m8 238 rfl) rfl
theorem q2017 : (Jvm.Cond.privateMethod ({ cls := "OpenGatesModel", name := "bold", desc := "(II)I" } : Jvm.MethodName)) ∈ lw_tbl := lw_at lw_m8 239 rfl
theorem q2018 : (Jvm.Cond.instanceMethod ({ cls := "OpenGatesModel", name := "bold", desc := "(II)I" } : Jvm.MethodName)) ∈ lw_all := lw_g (lw_at lw_m9 0 rfl) rfl
theorem q2019 : (Jvm.Cond.code ({ cls := "OpenGatesModel", name := "bold", desc := "(II)I" } : Jvm.MethodName) prog_22_method_92_code (4 : Nat) (Option.some Jvm.ClassFile.FieldType.int)) ∈ lw_all := lw_g (lw_at lw_m9 1 rfl) rfl
theorem q2021 : (Jvm.Cond.instanceMethod ({ cls := "OpenGatesModel", name := "fire", desc := "(I)I" } : Jvm.MethodName)) ∈ lw_all := lw_g (lw_at lw_m9 3 rfl) rfl
theorem q2022 : (Jvm.Cond.selects "OpenGatesModel" ({ cls := "OpenGatesModel", name := "fire", desc := "(I)I" } : Jvm.MethodName) ({ cls := "OpenGatesModel", name := "fire", desc := "(I)I" } : Jvm.MethodName)) ∈ lw_all := lw_g (lw_at lw_m9 4 rfl) rfl
theorem q2023 : (Jvm.Cond.code ({ cls := "OpenGatesModel", name := "fire", desc := "(I)I" } : Jvm.MethodName) prog_22_method_94_code (3 : Nat) (Option.some Jvm.ClassFile.FieldType.int)) ∈ lw_all := lw_g (lw_at lw_m9 5 rfl) rfl
theorem q2024 : (Jvm.Cond.constantLong "OpenGatesModel" (471 : Nat) (63 : Int64)) ∈ lw_all := lw_g (lw_at lw_m9 6 rfl) rfl
theorem q2026 : (Jvm.Cond.instanceMethod ({ cls := "OpenGatesModel", name := "needs", desc := "(II)I" } : Jvm.MethodName)) ∈ lw_all := lw_g (lw_at lw_m9 8 rfl) rfl
theorem q2027 : (Jvm.Cond.selects "OpenGatesModel" ({ cls := "OpenGatesModel", name := "needs", desc := "(II)I" } : Jvm.MethodName) ({ cls := "OpenGatesModel", name := "needs", desc := "(II)I" } : Jvm.MethodName)) ∈ lw_all := lw_g (lw_at lw_m9 9 rfl) rfl
theorem q2028 : (Jvm.Cond.code ({ cls := "OpenGatesModel", name := "needs", desc := "(II)I" } : Jvm.MethodName) prog_22_method_95_code (3 : Nat) (Option.some Jvm.ClassFile.FieldType.int)) ∈ lw_all := lw_g (lw_at lw_m9 10 rfl) rfl
theorem q2030 : (Jvm.Cond.instanceMethod ({ cls := "OpenGatesModel", name := "enough", desc := "(I)I" } : Jvm.MethodName)) ∈ lw_all := lw_g (lw_at lw_m9 12 rfl) rfl
theorem q2031 : (Jvm.Cond.selects "OpenGatesModel" ({ cls := "OpenGatesModel", name := "enough", desc := "(I)I" } : Jvm.MethodName) ({ cls := "OpenGatesModel", name := "enough", desc := "(I)I" } : Jvm.MethodName)) ∈ lw_all := lw_g (lw_at lw_m9 13 rfl) rfl
theorem q2032 : (Jvm.Cond.code ({ cls := "OpenGatesModel", name := "enough", desc := "(I)I" } : Jvm.MethodName) prog_22_method_97_code (7 : Nat) (Option.some Jvm.ClassFile.FieldType.int)) ∈ lw_all := lw_g (lw_at lw_m9 14 rfl) rfl
theorem q2033 : (Jvm.Cond.methodLink "OpenGatesModel" (473 : Nat) ({ cls := "OpenGatesModel", name := "ones", desc := "(I)I" } : Jvm.MethodName)) ∈ lw_all := lw_g (lw_at lw_m9 15 rfl) rfl
theorem q2034 : (Jvm.Cond.static ({ cls := "OpenGatesModel", name := "ones", desc := "(I)I" } : Jvm.MethodName)) ∈ lw_all := lw_g (lw_at lw_m9 16 rfl) rfl
theorem q2035 : (Jvm.Cond.code ({ cls := "OpenGatesModel", name := "ones", desc := "(I)I" } : Jvm.MethodName) prog_22_method_5_code (3 : Nat) (Option.some Jvm.ClassFile.FieldType.int)) ∈ lw_all := lw_g (lw_at lw_m9 17 rfl) rfl
theorem q2036 : (Jvm.Cond.methodLink "OpenGatesModel" (476 : Nat) ({ cls := "OpenGatesModel", name := "seenFrom", desc := "(II)I" } : Jvm.MethodName)) ∈ lw_all := lw_g (lw_at lw_m9 18 rfl) rfl
theorem q2037 : (Jvm.Cond.privateMethod ({ cls := "OpenGatesModel", name := "seenFrom", desc := "(II)I" } : Jvm.MethodName)) ∈ lw_tbl := lw_at lw_m9 19 rfl
theorem q2038 : (Jvm.Cond.instanceMethod ({ cls := "OpenGatesModel", name := "seenFrom", desc := "(II)I" } : Jvm.MethodName)) ∈ lw_all := lw_g (lw_at lw_m9 20 rfl) rfl
theorem q2039 : (Jvm.Cond.code ({ cls := "OpenGatesModel", name := "seenFrom", desc := "(II)I" } : Jvm.MethodName) prog_22_method_96_code (5 : Nat) (Option.some Jvm.ClassFile.FieldType.int)) ∈ lw_all := lw_g (lw_at lw_m9 21 rfl) rfl
theorem q2041 : (Jvm.Cond.instanceMethod ({ cls := "OpenGatesModel", name := "counted", desc := "(II)I" } : Jvm.MethodName)) ∈ lw_all := lw_g (lw_at lw_m9 23 rfl) rfl
theorem q2042 : (Jvm.Cond.selects "OpenGatesModel" ({ cls := "OpenGatesModel", name := "counted", desc := "(II)I" } : Jvm.MethodName) ({ cls := "OpenGatesModel", name := "counted", desc := "(II)I" } : Jvm.MethodName)) ∈ lw_all := lw_g (lw_at lw_m9 24 rfl) rfl
theorem q2043 : (Jvm.Cond.code ({ cls := "OpenGatesModel", name := "counted", desc := "(II)I" } : Jvm.MethodName) prog_22_method_98_code (4 : Nat) (Option.some Jvm.ClassFile.FieldType.int)) ∈ lw_all := lw_g (lw_at lw_m9 25 rfl) rfl
theorem q2045 : (Jvm.Cond.instanceMethod ({ cls := "OpenGatesModel", name := "forget", desc := "()I" } : Jvm.MethodName)) ∈ lw_all := lw_g (lw_at lw_m9 27 rfl) rfl
theorem q2046 : (Jvm.Cond.selects "OpenGatesModel" ({ cls := "OpenGatesModel", name := "forget", desc := "()I" } : Jvm.MethodName) ({ cls := "OpenGatesModel", name := "forget", desc := "()I" } : Jvm.MethodName)) ∈ lw_all := lw_g (lw_at lw_m9 28 rfl) rfl
theorem q2047 : (Jvm.Cond.code ({ cls := "OpenGatesModel", name := "forget", desc := "()I" } : Jvm.MethodName) prog_22_method_99_code (2 : Nat) (Option.some Jvm.ClassFile.FieldType.int)) ∈ lw_all := lw_g (lw_at lw_m9 29 rfl) rfl
theorem q2049 : (Jvm.Cond.instanceMethod ({ cls := "OpenGatesModel", name := "fits", desc := "(I)I" } : Jvm.MethodName)) ∈ lw_all := lw_g (lw_at lw_m9 31 rfl) rfl
theorem q2050 : (Jvm.Cond.selects "OpenGatesModel" ({ cls := "OpenGatesModel", name := "fits", desc := "(I)I" } : Jvm.MethodName) ({ cls := "OpenGatesModel", name := "fits", desc := "(I)I" } : Jvm.MethodName)) ∈ lw_all := lw_g (lw_at lw_m9 32 rfl) rfl
theorem q2051 : (Jvm.Cond.code ({ cls := "OpenGatesModel", name := "fits", desc := "(I)I" } : Jvm.MethodName) prog_22_method_101_code (5 : Nat) (Option.some Jvm.ClassFile.FieldType.int)) ∈ lw_all := lw_g (lw_at lw_m9 33 rfl) rfl
theorem q2052 : (Jvm.Cond.methodLink "OpenGatesModel" (479 : Nat) ({ cls := "OpenGatesModel", name := "isFitting", desc := "(I)Z" } : Jvm.MethodName)) ∈ lw_all := lw_g (lw_at lw_m9 34 rfl) rfl
theorem q2053 : (Jvm.Cond.privateMethod ({ cls := "OpenGatesModel", name := "isFitting", desc := "(I)Z" } : Jvm.MethodName)) ∈ lw_tbl := lw_at lw_m9 35 rfl
theorem q2054 : (Jvm.Cond.instanceMethod ({ cls := "OpenGatesModel", name := "isFitting", desc := "(I)Z" } : Jvm.MethodName)) ∈ lw_all := lw_g (lw_at lw_m9 36 rfl) rfl
theorem q2055 : (Jvm.Cond.code ({ cls := "OpenGatesModel", name := "isFitting", desc := "(I)Z" } : Jvm.MethodName) prog_22_method_100_code (4 : Nat) (Option.some Jvm.ClassFile.FieldType.boolean)) ∈ lw_all := lw_g (lw_at lw_m9 37 rfl) rfl
theorem q2057 : (Jvm.Cond.instanceMethod ({ cls := "OpenGatesModel", name := "next", desc := "(I)I" } : Jvm.MethodName)) ∈ lw_all := lw_g (lw_at lw_m9 39 rfl) rfl
theorem q2058 : (Jvm.Cond.selects "OpenGatesModel" ({ cls := "OpenGatesModel", name := "next", desc := "(I)I" } : Jvm.MethodName) ({ cls := "OpenGatesModel", name := "next", desc := "(I)I" } : Jvm.MethodName)) ∈ lw_all := lw_g (lw_at lw_m9 40 rfl) rfl
theorem q2059 : (Jvm.Cond.code ({ cls := "OpenGatesModel", name := "next", desc := "(I)I" } : Jvm.MethodName) prog_22_method_102_code (7 : Nat) (Option.some Jvm.ClassFile.FieldType.int)) ∈ lw_all := lw_g (lw_at lw_m9 41 rfl) rfl
theorem q2061 : (Jvm.Cond.instanceMethod ({ cls := "OpenGatesModel", name := "orders", desc := "()I" } : Jvm.MethodName)) ∈ lw_all := lw_g (lw_at lw_m9 43 rfl) rfl
theorem q2062 : (Jvm.Cond.selects "OpenGatesModel" ({ cls := "OpenGatesModel", name := "orders", desc := "()I" } : Jvm.MethodName) ({ cls := "OpenGatesModel", name := "orders", desc := "()I" } : Jvm.MethodName)) ∈ lw_all := lw_g (lw_at lw_m9 44 rfl) rfl
theorem q2063 : (Jvm.Cond.code ({ cls := "OpenGatesModel", name := "orders", desc := "()I" } : Jvm.MethodName) prog_22_method_108_code (4 : Nat) (Option.some Jvm.ClassFile.FieldType.int)) ∈ lw_all := lw_g (lw_at lw_m9 45 rfl) rfl
theorem q2064 : (Jvm.Cond.methodLink "OpenGatesModel" (508 : Nat) ({ cls := "OpenGatesModel", name := "readOrder", desc := "()V" } : Jvm.MethodName)) ∈ lw_all := lw_g (lw_at lw_m9 46 rfl) rfl
theorem q2065 : (Jvm.Cond.privateMethod ({ cls := "OpenGatesModel", name := "readOrder", desc := "()V" } : Jvm.MethodName)) ∈ lw_tbl := lw_at lw_m9 47 rfl
theorem q2066 : (Jvm.Cond.instanceMethod ({ cls := "OpenGatesModel", name := "readOrder", desc := "()V" } : Jvm.MethodName)) ∈ lw_all := lw_g (lw_at lw_m9 48 rfl) rfl
theorem q2067 : (Jvm.Cond.code ({ cls := "OpenGatesModel", name := "readOrder", desc := "()V" } : Jvm.MethodName) prog_22_method_104_code (4 : Nat) (Option.none : Option Jvm.ClassFile.FieldType)) ∈ lw_all := lw_g (lw_at lw_m9 49 rfl) rfl
theorem q2068 : (Jvm.Cond.methodLink "OpenGatesModel" (482 : Nat) ({ cls := "OpenGatesModel", name := "readSum", desc := "(I)V" } : Jvm.MethodName)) ∈ lw_all := lw_g (lw_at lw_m9 50 rfl) rfl
theorem q2069 : (Jvm.Cond.privateMethod ({ cls := "OpenGatesModel", name := "readSum", desc := "(I)V" } : Jvm.MethodName)) ∈ lw_tbl := lw_at lw_m9 51 rfl
theorem q2070 : (Jvm.Cond.instanceMethod ({ cls := "OpenGatesModel", name := "readSum", desc := "(I)V" } : Jvm.MethodName)) ∈ lw_all := lw_g (lw_at lw_m9 52 rfl) rfl
theorem q2071 : (Jvm.Cond.code ({ cls := "OpenGatesModel", name := "readSum", desc := "(I)V" } : Jvm.MethodName) prog_22_method_103_code (2 : Nat) (Option.none : Option Jvm.ClassFile.FieldType)) ∈ lw_all := lw_g (lw_at lw_m9 53 rfl) rfl
theorem q2072 : (Jvm.Cond.constantLong "OpenGatesModel" (485 : Nat) (52 : Int64)) ∈ lw_all := lw_g (lw_at lw_m9 54 rfl) rfl
theorem q2073 : (Jvm.Cond.constantLong "OpenGatesModel" (487 : Nat) (655 : Int64)) ∈ lw_all := lw_g (lw_at lw_m9 55 rfl) rfl
theorem q2074 : (Jvm.Cond.constantLong "OpenGatesModel" (489 : Nat) (89 : Int64)) ∈ lw_all := lw_g (lw_at lw_m9 56 rfl) rfl
theorem q2075 : (Jvm.Cond.constantLong "OpenGatesModel" (491 : Nat) (21279923 : Int64)) ∈ lw_all := lw_g (lw_at lw_m9 57 rfl) rfl
theorem q2076 : (Jvm.Cond.methodLink "OpenGatesModel" (511 : Nat) ({ cls := "OpenGatesModel", name := "run", desc := "(I)I" } : Jvm.MethodName)) ∈ lw_all := lw_g (lw_at lw_m9 58 rfl) rfl
theorem q2077 : (Jvm.Cond.privateMethod ({ cls := "OpenGatesModel", name := "run", desc := "(I)I" } : Jvm.MethodName)) ∈ lw_tbl := lw_at lw_m9 59 rfl
theorem q2078 : (Jvm.Cond.instanceMethod ({ cls := "OpenGatesModel", name := "run", desc := "(I)I" } : Jvm.MethodName)) ∈ lw_all := lw_g (lw_at lw_m9 60 rfl) rfl
theorem q2079 : (Jvm.Cond.code ({ cls := "OpenGatesModel", name := "run", desc := "(I)I" } : Jvm.MethodName) prog_22_method_107_code (5 : Nat) (Option.some Jvm.ClassFile.FieldType.int)) ∈ lw_all := lw_g (lw_at lw_m9 61 rfl) rfl
theorem q2080 : (Jvm.Cond.methodLink "OpenGatesModel" (502 : Nat) ({ cls := "OpenGatesModel", name := "sumOf", desc := "(I)I" } : Jvm.MethodName)) ∈ lw_all := lw_g (lw_at lw_m9 62 rfl) rfl
theorem q2081 : (Jvm.Cond.privateMethod ({ cls := "OpenGatesModel", name := "sumOf", desc := "(I)I" } : Jvm.MethodName)) ∈ lw_tbl := lw_at lw_m9 63 rfl
theorem q2082 : (Jvm.Cond.instanceMethod ({ cls := "OpenGatesModel", name := "sumOf", desc := "(I)I" } : Jvm.MethodName)) ∈ lw_all := lw_g (lw_at lw_m9 64 rfl) rfl
theorem q2083 : (Jvm.Cond.code ({ cls := "OpenGatesModel", name := "sumOf", desc := "(I)I" } : Jvm.MethodName) prog_22_method_105_code (2 : Nat) (Option.some Jvm.ClassFile.FieldType.int)) ∈ lw_all := lw_g (lw_at lw_m9 65 rfl) rfl
theorem q2084 : (Jvm.Cond.methodLink "OpenGatesModel" (505 : Nat) ({ cls := "OpenGatesModel", name := "act", desc := "(III)I" } : Jvm.MethodName)) ∈ lw_all := lw_g (lw_at lw_m9 66 rfl) rfl
theorem q2085 : (Jvm.Cond.privateMethod ({ cls := "OpenGatesModel", name := "act", desc := "(III)I" } : Jvm.MethodName)) ∈ lw_tbl := lw_at lw_m9 67 rfl
theorem q2086 : (Jvm.Cond.instanceMethod ({ cls := "OpenGatesModel", name := "act", desc := "(III)I" } : Jvm.MethodName)) ∈ lw_all := lw_g (lw_at lw_m9 68 rfl) rfl
theorem q2087 : (Jvm.Cond.code ({ cls := "OpenGatesModel", name := "act", desc := "(III)I" } : Jvm.MethodName) prog_22_method_106_code (4 : Nat) (Option.some Jvm.ClassFile.FieldType.int)) ∈ lw_all := lw_g (lw_at lw_m9 69 rfl) rfl
theorem q2088 : (Jvm.Cond.methodLink "OpenGatesModel" (514 : Nat) ({ cls := "OpenGatesModel", name := "giveBack", desc := "(I)V" } : Jvm.MethodName)) ∈ lw_all := lw_g (lw_at lw_m9 70 rfl) rfl
theorem q2089 : (Jvm.Cond.privateMethod ({ cls := "OpenGatesModel", name := "giveBack", desc := "(I)V" } : Jvm.MethodName)) ∈ lw_tbl := lw_at lw_m9 71 rfl
theorem q2090 : (Jvm.Cond.instanceMethod ({ cls := "OpenGatesModel", name := "giveBack", desc := "(I)V" } : Jvm.MethodName)) ∈ lw_all := lw_g (lw_at lw_m9 72 rfl) rfl
theorem q2091 : (Jvm.Cond.code ({ cls := "OpenGatesModel", name := "giveBack", desc := "(I)V" } : Jvm.MethodName) prog_22_method_109_code (3 : Nat) (Option.none : Option Jvm.ClassFile.FieldType)) ∈ lw_all := lw_g (lw_at lw_m9 73 rfl) rfl
theorem q2093 : (Jvm.Cond.instanceMethod ({ cls := "OpenGatesModel", name := "stopped", desc := "()I" } : Jvm.MethodName)) ∈ lw_all := lw_g (lw_at lw_m9 75 rfl) rfl
theorem q2094 : (Jvm.Cond.selects "OpenGatesModel" ({ cls := "OpenGatesModel", name := "stopped", desc := "()I" } : Jvm.MethodName) ({ cls := "OpenGatesModel", name := "stopped", desc := "()I" } : Jvm.MethodName)) ∈ lw_all := lw_g (lw_at lw_m9 76 rfl) rfl
theorem q2095 : (Jvm.Cond.code ({ cls := "OpenGatesModel", name := "stopped", desc := "()I" } : Jvm.MethodName) prog_22_method_110_code (1 : Nat) (Option.some Jvm.ClassFile.FieldType.int)) ∈ lw_all := lw_g (lw_at lw_m9 77 rfl) rfl
theorem q2097 : (Jvm.Cond.instanceMethod ({ cls := "OpenGatesModel", name := "sieges", desc := "(II)I" } : Jvm.MethodName)) ∈ lw_all := lw_g (lw_at lw_m9 79 rfl) rfl
theorem q2098 : (Jvm.Cond.selects "OpenGatesModel" ({ cls := "OpenGatesModel", name := "sieges", desc := "(II)I" } : Jvm.MethodName) ({ cls := "OpenGatesModel", name := "sieges", desc := "(II)I" } : Jvm.MethodName)) ∈ lw_all := lw_g (lw_at lw_m9 80 rfl) rfl
theorem q2099 : (Jvm.Cond.code ({ cls := "OpenGatesModel", name := "sieges", desc := "(II)I" } : Jvm.MethodName) prog_22_method_112_code (9 : Nat) (Option.some Jvm.ClassFile.FieldType.int)) ∈ lw_all := lw_g (lw_at lw_m9 81 rfl) rfl
theorem q2100 : (Jvm.Cond.constantLong "OpenGatesModel" (526 : Nat) (60 : Int64)) ∈ lw_all := lw_g (lw_at lw_m9 82 rfl) rfl
theorem q2101 : (Jvm.Cond.methodLink "OpenGatesModel" (528 : Nat) ({ cls := "OpenGatesModel", name := "draw", desc := "(I)I" } : Jvm.MethodName)) ∈ lw_all := lw_g (lw_at lw_m9 83 rfl) rfl
theorem q2102 : (Jvm.Cond.privateMethod ({ cls := "OpenGatesModel", name := "draw", desc := "(I)I" } : Jvm.MethodName)) ∈ lw_tbl := lw_at lw_m9 84 rfl
theorem q2103 : (Jvm.Cond.instanceMethod ({ cls := "OpenGatesModel", name := "draw", desc := "(I)I" } : Jvm.MethodName)) ∈ lw_all := lw_g (lw_at lw_m9 85 rfl) rfl
theorem q2104 : (Jvm.Cond.code ({ cls := "OpenGatesModel", name := "draw", desc := "(I)I" } : Jvm.MethodName) prog_22_method_111_code (2 : Nat) (Option.some Jvm.ClassFile.FieldType.int)) ∈ lw_all := lw_g (lw_at lw_m9 86 rfl) rfl
theorem q2105 : (Jvm.Cond.constantLong "OpenGatesModel" (520 : Nat) (1103 : Int64)) ∈ lw_all := lw_g (lw_at lw_m9 87 rfl) rfl
theorem q2106 : (Jvm.Cond.constantLong "OpenGatesModel" (522 : Nat) (12345 : Int64)) ∈ lw_all := lw_g (lw_at lw_m9 88 rfl) rfl
theorem q2107 : (Jvm.Cond.constantLong "OpenGatesModel" (524 : Nat) (1000003 : Int64)) ∈ lw_all := lw_g (lw_at lw_m9 89 rfl) rfl
theorem q2109 : (Jvm.Cond.instanceMethod ({ cls := "OpenGatesModel", name := "drawn", desc := "(II)I" } : Jvm.MethodName)) ∈ lw_all := lw_g (lw_at lw_m9 91 rfl) rfl
theorem q2110 : (Jvm.Cond.selects "OpenGatesModel" ({ cls := "OpenGatesModel", name := "drawn", desc := "(II)I" } : Jvm.MethodName) ({ cls := "OpenGatesModel", name := "drawn", desc := "(II)I" } : Jvm.MethodName)) ∈ lw_all := lw_g (lw_at lw_m9 92 rfl) rfl
theorem q2111 : (Jvm.Cond.code ({ cls := "OpenGatesModel", name := "drawn", desc := "(II)I" } : Jvm.MethodName) prog_22_method_113_code (3 : Nat) (Option.some Jvm.ClassFile.FieldType.int)) ∈ lw_all := lw_g (lw_at lw_m9 93 rfl) rfl
theorem q2113 : (Jvm.Cond.instanceMethod ({ cls := "OpenGatesModel", name := "count", desc := "(I)I" } : Jvm.MethodName)) ∈ lw_all := lw_g (lw_at lw_m9 95 rfl) rfl
theorem q2114 : (Jvm.Cond.selects "OpenGatesModel" ({ cls := "OpenGatesModel", name := "count", desc := "(I)I" } : Jvm.MethodName) ({ cls := "OpenGatesModel", name := "count", desc := "(I)I" } : Jvm.MethodName)) ∈ lw_all := lw_g (lw_at lw_m9 96 rfl) rfl
theorem q2115 : (Jvm.Cond.code ({ cls := "OpenGatesModel", name := "count", desc := "(I)I" } : Jvm.MethodName) prog_22_method_115_code (2 : Nat) (Option.some Jvm.ClassFile.FieldType.int)) ∈ lw_all := lw_g (lw_at lw_m9 97 rfl) rfl
theorem q2116 : (Jvm.Cond.methodLink "OpenGatesModel" (531 : Nat) ({ cls := "OpenGatesModel", name := "takenForts", desc := "()I" } : Jvm.MethodName)) ∈ lw_all := lw_g (lw_at lw_m9 98 rfl) rfl
theorem q2117 : (Jvm.Cond.privateMethod ({ cls := "OpenGatesModel", name := "takenForts", desc := "()I" } : Jvm.MethodName)) ∈ lw_tbl := lw_at lw_m9 99 rfl
theorem q2118 : (Jvm.Cond.instanceMethod ({ cls := "OpenGatesModel", name := "takenForts", desc := "()I" } : Jvm.MethodName)) ∈ lw_all := lw_g (lw_at lw_m9 100 rfl) rfl
theorem q2119 : (Jvm.Cond.code ({ cls := "OpenGatesModel", name := "takenForts", desc := "()I" } : Jvm.MethodName) prog_22_method_114_code (3 : Nat) (Option.some Jvm.ClassFile.FieldType.int)) ∈ lw_all := lw_g (lw_at lw_m9 101 rfl) rfl
theorem q2120 : (Jvm.Cond.constantLong "OpenGatesModel" (534 : Nat) (14 : Int64)) ∈ lw_all := lw_g (lw_at lw_m9 102 rfl) rfl
theorem q2121 : (Jvm.Cond.constantLong "OpenGatesModel" (536 : Nat) (16 : Int64)) ∈ lw_all := lw_g (lw_at lw_m9 103 rfl) rfl
theorem q2122 : (Jvm.Cond.constantLong "OpenGatesModel" (538 : Nat) (17 : Int64)) ∈ lw_all := lw_g (lw_at lw_m9 104 rfl) rfl
theorem q2124 : (Jvm.Cond.instanceMethod ({ cls := "OpenGatesModel", name := "status", desc := "()I" } : Jvm.MethodName)) ∈ lw_all := lw_g (lw_at lw_m9 106 rfl) rfl
theorem q2125 : (Jvm.Cond.selects "OpenGatesModel" ({ cls := "OpenGatesModel", name := "status", desc := "()I" } : Jvm.MethodName) ({ cls := "OpenGatesModel", name := "status", desc := "()I" } : Jvm.MethodName)) ∈ lw_all := lw_g (lw_at lw_m9 107 rfl) rfl
theorem q2126 : (Jvm.Cond.code ({ cls := "OpenGatesModel", name := "status", desc := "()I" } : Jvm.MethodName) prog_22_method_116_code (1 : Nat) (Option.some Jvm.ClassFile.FieldType.int)) ∈ lw_all := lw_g (lw_at lw_m9 108 rfl) rfl
theorem q2147 : (Jvm.Cond.castable "OpenGatesModel" "java/lang/Object") ∈ lw_tbl := lw_at lw_m9 129 rfl
theorem in_X5 : ∀ w ∈ wsX50, w ∈ lw_all := lw_in wsX50 [1530, 1532, 1534, 1536, 1538, 1540, 1542, 1544, 1546, 1548, 1550, 1552, 1554, 1556, 1558, 1560, 1562, 1564, 1566, 1568, 1570, 1572, 1574, 1576, 1578, 1580, 1582, 1584, 1586, 1588, 1590, 1592, 1594, 1596, 1598, 1600, 1602, 1604, 1606, 1608, 1610, 1612, 1614, 1616, 1618, 1620, 1622, 1624, 1626, 1628, 1630, 1632, 1634] (by decide +kernel) (by decide +kernel)
