/-! OpenGates -/
set_option maxRecDepth 100000
def RX0 : String := "OpenGates"
def TX0 : u_T := fun k => match k with
  | 0 => ("OpenGates", "status", "I", false)
  | 1 => ("OpenGates", "refused", "[I", true)
  | 2 => ("OpenGates", "state", "LOpenGates$State;", true)
  | 3 => ("OpenGates", "images", "[LOpenGates$State;", true)
  | 4 => ("OpenGates", "undone", "[LOpenGates$Table;", true)
  | 5 => ("OpenGates", "ordersUndone", "[LOpenGates$Table;", true)
  | 6 => ("OpenGates", "undoneWhat", "[I", true)
  | 7 => ("OpenGates", "ordersWhat", "[I", true)
  | 8 => ("OpenGates", "ahead", "LOpenGates$Table;", true)
  | 9 => ("OpenGates", "tape", "[B", true)
  | 10 => ("OpenGates", "taped", "I", false)
  | 11 => ("OpenGates", "fault", "I", false)
  | 12 => ("OpenGates", "brooms", "I", false)
  | 13 => ("OpenGates", "stopped", "I", false)
  | 14 => ("OpenGates", "undoMany", "I", false)
  | 15 => ("OpenGates", "setting", "LOpenGates$Setting;", true)
  | 16 => ("OpenGates", "hours", "[I", true)
  | 17 => ("OpenGates", "best", "[I", true)
  | 18 => ("OpenGates", "alike", "[I", true)
  | 19 => ("OpenGates", "drawnTable", "LOpenGates$Table;", true)
  | 20 => ("OpenGates", "drawnMany", "I", false)
  | _ => ("OpenGates", "drawn", "I", false)
def tyX0 : Nat → FieldType := fun k => match k with
  | 0 => .int
  | 1 => .array .int
  | 2 => .object "OpenGates$State"
  | 3 => .array (.object "OpenGates$State")
  | 4 => .array (.object "OpenGates$Table")
  | 5 => .array (.object "OpenGates$Table")
  | 6 => .array .int
  | 7 => .array .int
  | 8 => .object "OpenGates$Table"
  | 9 => .array .byte
  | 10 => .int
  | 11 => .int
  | 12 => .int
  | 13 => .int
  | 14 => .int
  | 15 => .object "OpenGates$Setting"
  | 16 => .array .int
  | 17 => .array .int
  | 18 => .array .int
  | 19 => .object "OpenGates$Table"
  | 20 => .int
  | _ => .int
abbrev wsX00 : List Cond := u_ws RX0 TX0 22
set_option maxRecDepth 100000 in
theorem nmX0 : ∀ a, a < 22 → ∀ b, b < 22 → a ≠ b → (TX0 a).2.1 ≠ (TX0 b).2.1 := by decide +kernel
set_option maxRecDepth 100000 in
theorem tyX0_ok : ∀ k, k < 22 → parseFieldDescriptor (TX0 k).2.2.1 = some (tyX0 k) := by decide +kernel
abbrev cX0_init : ByteArray := prog_1_method_11_code
def yX0_init : MethodName := ⟨RX0, "<init>", "()V"⟩
def dkwX0_init_8 : List UInt8 := [177]
abbrev dktX0_init_8 : List UInt8 := dkwX0_init_8 ++ []
def dkwX0_init_7 : List UInt8 := [89, 183, 0, 66, 83, 42, 180, 0, 57, 27, 187, 0, 51, 89, 183, 0, 66, 83, 132, 1, 1, 167, 255, 221]
abbrev dktX0_init_7 : List UInt8 := dkwX0_init_7 ++ dktX0_init_8
def dkwX0_init_6 : List UInt8 := [181, 0, 97, 42, 2, 181, 0, 100, 3, 60, 27, 16, 16, 162, 0, 35, 42, 180, 0, 53, 27, 187, 0, 51]
abbrev dktX0_init_6 : List UInt8 := dkwX0_init_6 ++ dktX0_init_7
def dkwX0_init_5 : List UInt8 := [16, 99, 188, 10, 181, 0, 91, 42, 16, 66, 188, 10, 181, 0, 94, 42, 187, 0, 51, 89, 183, 0, 66]
abbrev dktX0_init_5 : List UInt8 := dkwX0_init_5 ++ dktX0_init_6
def dkwX0_init_4 : List UInt8 := [181, 0, 78, 42, 187, 0, 81, 89, 183, 0, 83, 181, 0, 84, 42, 16, 6, 188, 10, 181, 0, 88, 42]
abbrev dktX0_init_4 : List UInt8 := dkwX0_init_4 ++ dktX0_init_5
def dkwX0_init_3 : List UInt8 := [183, 0, 66, 181, 0, 67, 42, 17, 1, 144, 188, 8, 181, 0, 71, 42, 2, 181, 0, 75, 42, 2]
abbrev dktX0_init_3 : List UInt8 := dkwX0_init_3 ++ dktX0_init_4
def dkwX0_init_2 : List UInt8 := [181, 0, 57, 42, 16, 16, 188, 10, 181, 0, 60, 42, 16, 16, 188, 10, 181, 0, 63, 42, 187, 0, 51, 89]
abbrev dktX0_init_2 : List UInt8 := dkwX0_init_2 ++ dktX0_init_3
def dkwX0_init_1 : List UInt8 := [5, 189, 0, 40, 181, 0, 47, 42, 16, 16, 189, 0, 51, 181, 0, 53, 42, 16, 16, 189, 0, 51]
abbrev dktX0_init_1 : List UInt8 := dkwX0_init_1 ++ dktX0_init_2
def dkwX0_init_0 : List UInt8 := [42, 183, 0, 34, 42, 16, 7, 188, 10, 181, 0, 7, 42, 187, 0, 40, 89, 183, 0, 42, 181, 0, 43, 42]
abbrev dktX0_init_0 : List UInt8 := dkwX0_init_0 ++ dktX0_init_1
theorem dksX0_init_0 : cX0_init.data.toList.drop 0 = dktX0_init_0 := by decide +kernel
theorem dksX0_init_1 : cX0_init.data.toList.drop 24 = dktX0_init_1 := dk_seg dksX0_init_0 24 rfl rfl
theorem dksX0_init_2 : cX0_init.data.toList.drop 46 = dktX0_init_2 := dk_seg dksX0_init_1 22 rfl rfl
theorem dksX0_init_3 : cX0_init.data.toList.drop 70 = dktX0_init_3 := dk_seg dksX0_init_2 24 rfl rfl
theorem dksX0_init_4 : cX0_init.data.toList.drop 92 = dktX0_init_4 := dk_seg dksX0_init_3 22 rfl rfl
theorem dksX0_init_5 : cX0_init.data.toList.drop 115 = dktX0_init_5 := dk_seg dksX0_init_4 23 rfl rfl
theorem dksX0_init_6 : cX0_init.data.toList.drop 138 = dktX0_init_6 := dk_seg dksX0_init_5 23 rfl rfl
theorem dksX0_init_7 : cX0_init.data.toList.drop 162 = dktX0_init_7 := dk_seg dksX0_init_6 24 rfl rfl
theorem dksX0_init_8 : cX0_init.data.toList.drop 186 = dktX0_init_8 := dk_seg dksX0_init_7 24 rfl rfl
theorem dX0_init_0 : decode cX0_init 0 = .ok (.aload_n 0, 1) := dk_42 (dk_at dksX0_init_0 0 rfl rfl)
theorem dX0_init_1 : decode cX0_init 1 = .ok (.invokespecial 34, 3) := dk_183 0 34 (dk_at dksX0_init_0 1 rfl rfl)
theorem dX0_init_4 : decode cX0_init 4 = .ok (.aload_n 0, 1) := dk_42 (dk_at dksX0_init_0 4 rfl rfl)
theorem dX0_init_5 : decode cX0_init 5 = .ok (.bipush 7, 2) := dk_16 7 (dk_at dksX0_init_0 5 rfl rfl)
theorem dX0_init_7 : decode cX0_init 7 = .ok (.newarray .int, 2) := dk_188_10 (dk_at dksX0_init_0 7 rfl rfl)
theorem dX0_init_9 : decode cX0_init 9 = .ok (.putfield 7, 3) := dk_181 0 7 (dk_at dksX0_init_0 9 rfl rfl)
theorem dX0_init_12 : decode cX0_init 12 = .ok (.aload_n 0, 1) := dk_42 (dk_at dksX0_init_0 12 rfl rfl)
theorem dX0_init_13 : decode cX0_init 13 = .ok (.new 40, 3) := dk_187 0 40 (dk_at dksX0_init_0 13 rfl rfl)
theorem dX0_init_16 : decode cX0_init 16 = .ok (.dup, 1) := dk_89 (dk_at dksX0_init_0 16 rfl rfl)
theorem dX0_init_17 : decode cX0_init 17 = .ok (.invokespecial 42, 3) := dk_183 0 42 (dk_at dksX0_init_0 17 rfl rfl)
theorem dX0_init_20 : decode cX0_init 20 = .ok (.putfield 43, 3) := dk_181 0 43 (dk_at dksX0_init_0 20 rfl rfl)
theorem dX0_init_23 : decode cX0_init 23 = .ok (.aload_n 0, 1) := dk_42 (dk_at dksX0_init_0 23 rfl rfl)
theorem dX0_init_24 : decode cX0_init 24 = .ok (.iconst 2, 1) := dk_5 (dk_at dksX0_init_1 0 rfl rfl)
theorem dX0_init_25 : decode cX0_init 25 = .ok (.anewarray 40, 3) := dk_189 0 40 (dk_at dksX0_init_1 1 rfl rfl)
theorem dX0_init_28 : decode cX0_init 28 = .ok (.putfield 47, 3) := dk_181 0 47 (dk_at dksX0_init_1 4 rfl rfl)
theorem dX0_init_31 : decode cX0_init 31 = .ok (.aload_n 0, 1) := dk_42 (dk_at dksX0_init_1 7 rfl rfl)
theorem dX0_init_32 : decode cX0_init 32 = .ok (.bipush 16, 2) := dk_16 16 (dk_at dksX0_init_1 8 rfl rfl)
theorem dX0_init_34 : decode cX0_init 34 = .ok (.anewarray 51, 3) := dk_189 0 51 (dk_at dksX0_init_1 10 rfl rfl)
theorem dX0_init_37 : decode cX0_init 37 = .ok (.putfield 53, 3) := dk_181 0 53 (dk_at dksX0_init_1 13 rfl rfl)
theorem dX0_init_40 : decode cX0_init 40 = .ok (.aload_n 0, 1) := dk_42 (dk_at dksX0_init_1 16 rfl rfl)
theorem dX0_init_41 : decode cX0_init 41 = .ok (.bipush 16, 2) := dk_16 16 (dk_at dksX0_init_1 17 rfl rfl)
theorem dX0_init_43 : decode cX0_init 43 = .ok (.anewarray 51, 3) := dk_189 0 51 (dk_at dksX0_init_1 19 rfl rfl)
theorem dX0_init_46 : decode cX0_init 46 = .ok (.putfield 57, 3) := dk_181 0 57 (dk_at dksX0_init_2 0 rfl rfl)
theorem dX0_init_49 : decode cX0_init 49 = .ok (.aload_n 0, 1) := dk_42 (dk_at dksX0_init_2 3 rfl rfl)
theorem dX0_init_50 : decode cX0_init 50 = .ok (.bipush 16, 2) := dk_16 16 (dk_at dksX0_init_2 4 rfl rfl)
theorem dX0_init_52 : decode cX0_init 52 = .ok (.newarray .int, 2) := dk_188_10 (dk_at dksX0_init_2 6 rfl rfl)
theorem dX0_init_54 : decode cX0_init 54 = .ok (.putfield 60, 3) := dk_181 0 60 (dk_at dksX0_init_2 8 rfl rfl)
theorem dX0_init_57 : decode cX0_init 57 = .ok (.aload_n 0, 1) := dk_42 (dk_at dksX0_init_2 11 rfl rfl)
theorem dX0_init_58 : decode cX0_init 58 = .ok (.bipush 16, 2) := dk_16 16 (dk_at dksX0_init_2 12 rfl rfl)
theorem dX0_init_60 : decode cX0_init 60 = .ok (.newarray .int, 2) := dk_188_10 (dk_at dksX0_init_2 14 rfl rfl)
theorem dX0_init_62 : decode cX0_init 62 = .ok (.putfield 63, 3) := dk_181 0 63 (dk_at dksX0_init_2 16 rfl rfl)
theorem dX0_init_65 : decode cX0_init 65 = .ok (.aload_n 0, 1) := dk_42 (dk_at dksX0_init_2 19 rfl rfl)
theorem dX0_init_66 : decode cX0_init 66 = .ok (.new 51, 3) := dk_187 0 51 (dk_at dksX0_init_2 20 rfl rfl)
theorem dX0_init_69 : decode cX0_init 69 = .ok (.dup, 1) := dk_89 (dk_at dksX0_init_2 23 rfl rfl)
theorem dX0_init_70 : decode cX0_init 70 = .ok (.invokespecial 66, 3) := dk_183 0 66 (dk_at dksX0_init_3 0 rfl rfl)
theorem dX0_init_73 : decode cX0_init 73 = .ok (.putfield 67, 3) := dk_181 0 67 (dk_at dksX0_init_3 3 rfl rfl)
theorem dX0_init_76 : decode cX0_init 76 = .ok (.aload_n 0, 1) := dk_42 (dk_at dksX0_init_3 6 rfl rfl)
theorem dX0_init_77 : decode cX0_init 77 = .ok (.sipush 400, 3) := dk_17 1 144 (dk_at dksX0_init_3 7 rfl rfl)
theorem dX0_init_80 : decode cX0_init 80 = .ok (.newarray .byte, 2) := dk_188_8 (dk_at dksX0_init_3 10 rfl rfl)
theorem dX0_init_82 : decode cX0_init 82 = .ok (.putfield 71, 3) := dk_181 0 71 (dk_at dksX0_init_3 12 rfl rfl)
theorem dX0_init_85 : decode cX0_init 85 = .ok (.aload_n 0, 1) := dk_42 (dk_at dksX0_init_3 15 rfl rfl)
theorem dX0_init_86 : decode cX0_init 86 = .ok (.iconst (-1), 1) := dk_2 (dk_at dksX0_init_3 16 rfl rfl)
theorem dX0_init_87 : decode cX0_init 87 = .ok (.putfield 75, 3) := dk_181 0 75 (dk_at dksX0_init_3 17 rfl rfl)
theorem dX0_init_90 : decode cX0_init 90 = .ok (.aload_n 0, 1) := dk_42 (dk_at dksX0_init_3 20 rfl rfl)
theorem dX0_init_91 : decode cX0_init 91 = .ok (.iconst (-1), 1) := dk_2 (dk_at dksX0_init_3 21 rfl rfl)
theorem dX0_init_92 : decode cX0_init 92 = .ok (.putfield 78, 3) := dk_181 0 78 (dk_at dksX0_init_4 0 rfl rfl)
theorem dX0_init_95 : decode cX0_init 95 = .ok (.aload_n 0, 1) := dk_42 (dk_at dksX0_init_4 3 rfl rfl)
theorem dX0_init_96 : decode cX0_init 96 = .ok (.new 81, 3) := dk_187 0 81 (dk_at dksX0_init_4 4 rfl rfl)
theorem dX0_init_99 : decode cX0_init 99 = .ok (.dup, 1) := dk_89 (dk_at dksX0_init_4 7 rfl rfl)
theorem dX0_init_100 : decode cX0_init 100 = .ok (.invokespecial 83, 3) := dk_183 0 83 (dk_at dksX0_init_4 8 rfl rfl)
theorem dX0_init_103 : decode cX0_init 103 = .ok (.putfield 84, 3) := dk_181 0 84 (dk_at dksX0_init_4 11 rfl rfl)
theorem dX0_init_106 : decode cX0_init 106 = .ok (.aload_n 0, 1) := dk_42 (dk_at dksX0_init_4 14 rfl rfl)
theorem dX0_init_107 : decode cX0_init 107 = .ok (.bipush 6, 2) := dk_16 6 (dk_at dksX0_init_4 15 rfl rfl)
theorem dX0_init_109 : decode cX0_init 109 = .ok (.newarray .int, 2) := dk_188_10 (dk_at dksX0_init_4 17 rfl rfl)
theorem dX0_init_111 : decode cX0_init 111 = .ok (.putfield 88, 3) := dk_181 0 88 (dk_at dksX0_init_4 19 rfl rfl)
theorem dX0_init_114 : decode cX0_init 114 = .ok (.aload_n 0, 1) := dk_42 (dk_at dksX0_init_4 22 rfl rfl)
theorem dX0_init_115 : decode cX0_init 115 = .ok (.bipush 99, 2) := dk_16 99 (dk_at dksX0_init_5 0 rfl rfl)
theorem dX0_init_117 : decode cX0_init 117 = .ok (.newarray .int, 2) := dk_188_10 (dk_at dksX0_init_5 2 rfl rfl)
theorem dX0_init_119 : decode cX0_init 119 = .ok (.putfield 91, 3) := dk_181 0 91 (dk_at dksX0_init_5 4 rfl rfl)
theorem dX0_init_122 : decode cX0_init 122 = .ok (.aload_n 0, 1) := dk_42 (dk_at dksX0_init_5 7 rfl rfl)
theorem dX0_init_123 : decode cX0_init 123 = .ok (.bipush 66, 2) := dk_16 66 (dk_at dksX0_init_5 8 rfl rfl)
theorem dX0_init_125 : decode cX0_init 125 = .ok (.newarray .int, 2) := dk_188_10 (dk_at dksX0_init_5 10 rfl rfl)
theorem dX0_init_127 : decode cX0_init 127 = .ok (.putfield 94, 3) := dk_181 0 94 (dk_at dksX0_init_5 12 rfl rfl)
theorem dX0_init_130 : decode cX0_init 130 = .ok (.aload_n 0, 1) := dk_42 (dk_at dksX0_init_5 15 rfl rfl)
theorem dX0_init_131 : decode cX0_init 131 = .ok (.new 51, 3) := dk_187 0 51 (dk_at dksX0_init_5 16 rfl rfl)
theorem dX0_init_134 : decode cX0_init 134 = .ok (.dup, 1) := dk_89 (dk_at dksX0_init_5 19 rfl rfl)
theorem dX0_init_135 : decode cX0_init 135 = .ok (.invokespecial 66, 3) := dk_183 0 66 (dk_at dksX0_init_5 20 rfl rfl)
theorem dX0_init_138 : decode cX0_init 138 = .ok (.putfield 97, 3) := dk_181 0 97 (dk_at dksX0_init_6 0 rfl rfl)
theorem dX0_init_141 : decode cX0_init 141 = .ok (.aload_n 0, 1) := dk_42 (dk_at dksX0_init_6 3 rfl rfl)
theorem dX0_init_142 : decode cX0_init 142 = .ok (.iconst (-1), 1) := dk_2 (dk_at dksX0_init_6 4 rfl rfl)
theorem dX0_init_143 : decode cX0_init 143 = .ok (.putfield 100, 3) := dk_181 0 100 (dk_at dksX0_init_6 5 rfl rfl)
theorem dX0_init_146 : decode cX0_init 146 = .ok (.iconst 0, 1) := dk_3 (dk_at dksX0_init_6 8 rfl rfl)
theorem dX0_init_147 : decode cX0_init 147 = .ok (.istore_n 1, 1) := dk_60 (dk_at dksX0_init_6 9 rfl rfl)
theorem dX0_init_148 : decode cX0_init 148 = .ok (.iload_n 1, 1) := dk_27 (dk_at dksX0_init_6 10 rfl rfl)
theorem dX0_init_149 : decode cX0_init 149 = .ok (.bipush 16, 2) := dk_16 16 (dk_at dksX0_init_6 11 rfl rfl)
theorem dX0_init_151 : decode cX0_init 151 = .ok (.if_icmp .ge 35, 3) := dk_162 0 35 (dk_at dksX0_init_6 13 rfl rfl)
theorem dX0_init_154 : decode cX0_init 154 = .ok (.aload_n 0, 1) := dk_42 (dk_at dksX0_init_6 16 rfl rfl)
theorem dX0_init_155 : decode cX0_init 155 = .ok (.getfield 53, 3) := dk_180 0 53 (dk_at dksX0_init_6 17 rfl rfl)
theorem dX0_init_158 : decode cX0_init 158 = .ok (.iload_n 1, 1) := dk_27 (dk_at dksX0_init_6 20 rfl rfl)
theorem dX0_init_159 : decode cX0_init 159 = .ok (.new 51, 3) := dk_187 0 51 (dk_at dksX0_init_6 21 rfl rfl)
theorem dX0_init_162 : decode cX0_init 162 = .ok (.dup, 1) := dk_89 (dk_at dksX0_init_7 0 rfl rfl)
theorem dX0_init_163 : decode cX0_init 163 = .ok (.invokespecial 66, 3) := dk_183 0 66 (dk_at dksX0_init_7 1 rfl rfl)
theorem dX0_init_166 : decode cX0_init 166 = .ok (.aastore, 1) := dk_83 (dk_at dksX0_init_7 4 rfl rfl)
theorem dX0_init_167 : decode cX0_init 167 = .ok (.aload_n 0, 1) := dk_42 (dk_at dksX0_init_7 5 rfl rfl)
theorem dX0_init_168 : decode cX0_init 168 = .ok (.getfield 57, 3) := dk_180 0 57 (dk_at dksX0_init_7 6 rfl rfl)
theorem dX0_init_171 : decode cX0_init 171 = .ok (.iload_n 1, 1) := dk_27 (dk_at dksX0_init_7 9 rfl rfl)
theorem dX0_init_172 : decode cX0_init 172 = .ok (.new 51, 3) := dk_187 0 51 (dk_at dksX0_init_7 10 rfl rfl)
theorem dX0_init_175 : decode cX0_init 175 = .ok (.dup, 1) := dk_89 (dk_at dksX0_init_7 13 rfl rfl)
theorem dX0_init_176 : decode cX0_init 176 = .ok (.invokespecial 66, 3) := dk_183 0 66 (dk_at dksX0_init_7 14 rfl rfl)
theorem dX0_init_179 : decode cX0_init 179 = .ok (.aastore, 1) := dk_83 (dk_at dksX0_init_7 17 rfl rfl)
theorem dX0_init_180 : decode cX0_init 180 = .ok (.iinc 1 1, 3) := dk_132 1 1 (dk_at dksX0_init_7 18 rfl rfl)
theorem dX0_init_183 : decode cX0_init 183 = .ok (.goto (-35), 3) := dk_167 255 221 (dk_at dksX0_init_7 21 rfl rfl)
theorem dX0_init_186 : decode cX0_init 186 = .ok (.return_, 1) := dk_177 (dk_at dksX0_init_8 0 rfl rfl)
abbrev cX0_image : ByteArray := prog_1_method_16_code
def yX0_image : MethodName := ⟨RX0, "image", "(I)I"⟩
def dkwX0_image_2 : List UInt8 := [182, 0, 118, 42, 3, 182, 0, 109, 172]
abbrev dktX0_image_2 : List UInt8 := dkwX0_image_2 ++ []
def dkwX0_image_1 : List UInt8 := [42, 180, 0, 47, 27, 187, 0, 40, 89, 183, 0, 42, 83, 42, 180, 0, 47, 27, 50, 42, 180, 0, 43]
abbrev dktX0_image_1 : List UInt8 := dkwX0_image_1 ++ dktX0_image_2
def dkwX0_image_0 : List UInt8 := [27, 3, 4, 184, 0, 26, 154, 0, 9, 42, 2, 182, 0, 115, 172, 42, 180, 0, 47, 27, 50, 199, 0, 16]
abbrev dktX0_image_0 : List UInt8 := dkwX0_image_0 ++ dktX0_image_1
theorem dksX0_image_0 : cX0_image.data.toList.drop 0 = dktX0_image_0 := by decide +kernel
theorem dksX0_image_1 : cX0_image.data.toList.drop 24 = dktX0_image_1 := dk_seg dksX0_image_0 24 rfl rfl
theorem dksX0_image_2 : cX0_image.data.toList.drop 47 = dktX0_image_2 := dk_seg dksX0_image_1 23 rfl rfl
theorem dX0_image_0 : decode cX0_image 0 = .ok (.iload_n 1, 1) := dk_27 (dk_at dksX0_image_0 0 rfl rfl)
theorem dX0_image_1 : decode cX0_image 1 = .ok (.iconst 0, 1) := dk_3 (dk_at dksX0_image_0 1 rfl rfl)
theorem dX0_image_2 : decode cX0_image 2 = .ok (.iconst 1, 1) := dk_4 (dk_at dksX0_image_0 2 rfl rfl)
theorem dX0_image_3 : decode cX0_image 3 = .ok (.invokestatic 26, 3) := dk_184 0 26 (dk_at dksX0_image_0 3 rfl rfl)
theorem dX0_image_6 : decode cX0_image 6 = .ok (.ifCond .ne 9, 3) := dk_154 0 9 (dk_at dksX0_image_0 6 rfl rfl)
theorem dX0_image_9 : decode cX0_image 9 = .ok (.aload_n 0, 1) := dk_42 (dk_at dksX0_image_0 9 rfl rfl)
theorem dX0_image_10 : decode cX0_image 10 = .ok (.iconst (-1), 1) := dk_2 (dk_at dksX0_image_0 10 rfl rfl)
theorem dX0_image_11 : decode cX0_image 11 = .ok (.invokevirtual 115, 3) := dk_182 0 115 (dk_at dksX0_image_0 11 rfl rfl)
theorem dX0_image_14 : decode cX0_image 14 = .ok (.ireturn, 1) := dk_172 (dk_at dksX0_image_0 14 rfl rfl)
theorem dX0_image_15 : decode cX0_image 15 = .ok (.aload_n 0, 1) := dk_42 (dk_at dksX0_image_0 15 rfl rfl)
theorem dX0_image_16 : decode cX0_image 16 = .ok (.getfield 47, 3) := dk_180 0 47 (dk_at dksX0_image_0 16 rfl rfl)
theorem dX0_image_19 : decode cX0_image 19 = .ok (.iload_n 1, 1) := dk_27 (dk_at dksX0_image_0 19 rfl rfl)
theorem dX0_image_20 : decode cX0_image 20 = .ok (.aaload, 1) := dk_50 (dk_at dksX0_image_0 20 rfl rfl)
theorem dX0_image_21 : decode cX0_image 21 = .ok (.ifnonnull 16, 3) := dk_199 0 16 (dk_at dksX0_image_0 21 rfl rfl)
theorem dX0_image_24 : decode cX0_image 24 = .ok (.aload_n 0, 1) := dk_42 (dk_at dksX0_image_1 0 rfl rfl)
theorem dX0_image_25 : decode cX0_image 25 = .ok (.getfield 47, 3) := dk_180 0 47 (dk_at dksX0_image_1 1 rfl rfl)
theorem dX0_image_28 : decode cX0_image 28 = .ok (.iload_n 1, 1) := dk_27 (dk_at dksX0_image_1 4 rfl rfl)
theorem dX0_image_29 : decode cX0_image 29 = .ok (.new 40, 3) := dk_187 0 40 (dk_at dksX0_image_1 5 rfl rfl)
theorem dX0_image_32 : decode cX0_image 32 = .ok (.dup, 1) := dk_89 (dk_at dksX0_image_1 8 rfl rfl)
theorem dX0_image_33 : decode cX0_image 33 = .ok (.invokespecial 42, 3) := dk_183 0 42 (dk_at dksX0_image_1 9 rfl rfl)
theorem dX0_image_36 : decode cX0_image 36 = .ok (.aastore, 1) := dk_83 (dk_at dksX0_image_1 12 rfl rfl)
theorem dX0_image_37 : decode cX0_image 37 = .ok (.aload_n 0, 1) := dk_42 (dk_at dksX0_image_1 13 rfl rfl)
theorem dX0_image_38 : decode cX0_image 38 = .ok (.getfield 47, 3) := dk_180 0 47 (dk_at dksX0_image_1 14 rfl rfl)
theorem dX0_image_41 : decode cX0_image 41 = .ok (.iload_n 1, 1) := dk_27 (dk_at dksX0_image_1 17 rfl rfl)
theorem dX0_image_42 : decode cX0_image 42 = .ok (.aaload, 1) := dk_50 (dk_at dksX0_image_1 18 rfl rfl)
theorem dX0_image_43 : decode cX0_image 43 = .ok (.aload_n 0, 1) := dk_42 (dk_at dksX0_image_1 19 rfl rfl)
theorem dX0_image_44 : decode cX0_image 44 = .ok (.getfield 43, 3) := dk_180 0 43 (dk_at dksX0_image_1 20 rfl rfl)
theorem dX0_image_47 : decode cX0_image 47 = .ok (.invokevirtual 118, 3) := dk_182 0 118 (dk_at dksX0_image_2 0 rfl rfl)
theorem dX0_image_50 : decode cX0_image 50 = .ok (.aload_n 0, 1) := dk_42 (dk_at dksX0_image_2 3 rfl rfl)
theorem dX0_image_51 : decode cX0_image 51 = .ok (.iconst 0, 1) := dk_3 (dk_at dksX0_image_2 4 rfl rfl)
theorem dX0_image_52 : decode cX0_image 52 = .ok (.invokevirtual 109, 3) := dk_182 0 109 (dk_at dksX0_image_2 5 rfl rfl)
theorem dX0_image_55 : decode cX0_image 55 = .ok (.ireturn, 1) := dk_172 (dk_at dksX0_image_2 8 rfl rfl)
abbrev cX0_in : ByteArray := prog_1_method_3_code
def yX0_in : MethodName := ⟨RX0, "in", "(III)Z"⟩
def dkwX0_in_0 : List UInt8 := [26, 27, 161, 0, 12, 26, 28, 163, 0, 7, 4, 167, 0, 4, 3, 172]
abbrev dktX0_in_0 : List UInt8 := dkwX0_in_0 ++ []
theorem dksX0_in_0 : cX0_in.data.toList.drop 0 = dktX0_in_0 := by decide +kernel
theorem dX0_in_0 : decode cX0_in 0 = .ok (.iload_n 0, 1) := dk_26 (dk_at dksX0_in_0 0 rfl rfl)
theorem dX0_in_1 : decode cX0_in 1 = .ok (.iload_n 1, 1) := dk_27 (dk_at dksX0_in_0 1 rfl rfl)
theorem dX0_in_2 : decode cX0_in 2 = .ok (.if_icmp .lt 12, 3) := dk_161 0 12 (dk_at dksX0_in_0 2 rfl rfl)
theorem dX0_in_5 : decode cX0_in 5 = .ok (.iload_n 0, 1) := dk_26 (dk_at dksX0_in_0 5 rfl rfl)
theorem dX0_in_6 : decode cX0_in 6 = .ok (.iload_n 2, 1) := dk_28 (dk_at dksX0_in_0 6 rfl rfl)
theorem dX0_in_7 : decode cX0_in 7 = .ok (.if_icmp .gt 7, 3) := dk_163 0 7 (dk_at dksX0_in_0 7 rfl rfl)
theorem dX0_in_10 : decode cX0_in 10 = .ok (.iconst 1, 1) := dk_4 (dk_at dksX0_in_0 10 rfl rfl)
theorem dX0_in_11 : decode cX0_in 11 = .ok (.goto 4, 3) := dk_167 0 4 (dk_at dksX0_in_0 11 rfl rfl)
theorem dX0_in_14 : decode cX0_in 14 = .ok (.iconst 0, 1) := dk_3 (dk_at dksX0_in_0 14 rfl rfl)
theorem dX0_in_15 : decode cX0_in 15 = .ok (.ireturn, 1) := dk_172 (dk_at dksX0_in_0 15 rfl rfl)
abbrev cX0_refuse : ByteArray := prog_1_method_1_code
def yX0_refuse : MethodName := ⟨RX0, "refuse", "(I)I"⟩
def dkwX0_refuse_0 : List UInt8 := [42, 27, 181, 0, 1, 42, 180, 0, 7, 27, 116, 92, 46, 4, 96, 79, 27, 172]
abbrev dktX0_refuse_0 : List UInt8 := dkwX0_refuse_0 ++ []
theorem dksX0_refuse_0 : cX0_refuse.data.toList.drop 0 = dktX0_refuse_0 := by decide +kernel
theorem dX0_refuse_0 : decode cX0_refuse 0 = .ok (.aload_n 0, 1) := dk_42 (dk_at dksX0_refuse_0 0 rfl rfl)
theorem dX0_refuse_1 : decode cX0_refuse 1 = .ok (.iload_n 1, 1) := dk_27 (dk_at dksX0_refuse_0 1 rfl rfl)
theorem dX0_refuse_2 : decode cX0_refuse 2 = .ok (.putfield 1, 3) := dk_181 0 1 (dk_at dksX0_refuse_0 2 rfl rfl)
theorem dX0_refuse_5 : decode cX0_refuse 5 = .ok (.aload_n 0, 1) := dk_42 (dk_at dksX0_refuse_0 5 rfl rfl)
theorem dX0_refuse_6 : decode cX0_refuse 6 = .ok (.getfield 7, 3) := dk_180 0 7 (dk_at dksX0_refuse_0 6 rfl rfl)
theorem dX0_refuse_9 : decode cX0_refuse 9 = .ok (.iload_n 1, 1) := dk_27 (dk_at dksX0_refuse_0 9 rfl rfl)
theorem dX0_refuse_10 : decode cX0_refuse 10 = .ok (.ineg, 1) := dk_116 (dk_at dksX0_refuse_0 10 rfl rfl)
theorem dX0_refuse_11 : decode cX0_refuse 11 = .ok (.dup2, 1) := dk_92 (dk_at dksX0_refuse_0 11 rfl rfl)
theorem dX0_refuse_12 : decode cX0_refuse 12 = .ok (.iaload, 1) := dk_46 (dk_at dksX0_refuse_0 12 rfl rfl)
theorem dX0_refuse_13 : decode cX0_refuse 13 = .ok (.iconst 1, 1) := dk_4 (dk_at dksX0_refuse_0 13 rfl rfl)
theorem dX0_refuse_14 : decode cX0_refuse 14 = .ok (.iadd, 1) := dk_96 (dk_at dksX0_refuse_0 14 rfl rfl)
theorem dX0_refuse_15 : decode cX0_refuse 15 = .ok (.iastore, 1) := dk_79 (dk_at dksX0_refuse_0 15 rfl rfl)
theorem dX0_refuse_16 : decode cX0_refuse 16 = .ok (.iload_n 1, 1) := dk_27 (dk_at dksX0_refuse_0 16 rfl rfl)
theorem dX0_refuse_17 : decode cX0_refuse 17 = .ok (.ireturn, 1) := dk_172 (dk_at dksX0_refuse_0 17 rfl rfl)
abbrev cX0_done : ByteArray := prog_1_method_2_code
def yX0_done : MethodName := ⟨RX0, "done", "(I)I"⟩
def dkwX0_done_0 : List UInt8 := [42, 3, 181, 0, 1, 27, 172]
abbrev dktX0_done_0 : List UInt8 := dkwX0_done_0 ++ []
theorem dksX0_done_0 : cX0_done.data.toList.drop 0 = dktX0_done_0 := by decide +kernel
theorem dX0_done_0 : decode cX0_done 0 = .ok (.aload_n 0, 1) := dk_42 (dk_at dksX0_done_0 0 rfl rfl)
theorem dX0_done_1 : decode cX0_done 1 = .ok (.iconst 0, 1) := dk_3 (dk_at dksX0_done_0 1 rfl rfl)
theorem dX0_done_2 : decode cX0_done 2 = .ok (.putfield 1, 3) := dk_181 0 1 (dk_at dksX0_done_0 2 rfl rfl)
theorem dX0_done_5 : decode cX0_done 5 = .ok (.iload_n 1, 1) := dk_27 (dk_at dksX0_done_0 5 rfl rfl)
theorem dX0_done_6 : decode cX0_done 6 = .ok (.ireturn, 1) := dk_172 (dk_at dksX0_done_0 6 rfl rfl)
abbrev cX0_back : ByteArray := prog_1_method_17_code
def yX0_back : MethodName := ⟨RX0, "back", "(I)I"⟩
def dkwX0_back_2 : List UInt8 := [182, 0, 122, 172]
abbrev dktX0_back_2 : List UInt8 := dkwX0_back_2 ++ []
def dkwX0_back_1 : List UInt8 := [42, 16, 254, 182, 0, 115, 172, 42, 180, 0, 43, 42, 180, 0, 47, 27, 50, 182, 0, 118, 42, 3]
abbrev dktX0_back_1 : List UInt8 := dkwX0_back_1 ++ dktX0_back_2
def dkwX0_back_0 : List UInt8 := [27, 3, 4, 184, 0, 26, 154, 0, 9, 42, 2, 182, 0, 115, 172, 42, 180, 0, 47, 27, 50, 199, 0, 10]
abbrev dktX0_back_0 : List UInt8 := dkwX0_back_0 ++ dktX0_back_1
theorem dksX0_back_0 : cX0_back.data.toList.drop 0 = dktX0_back_0 := by decide +kernel
theorem dksX0_back_1 : cX0_back.data.toList.drop 24 = dktX0_back_1 := dk_seg dksX0_back_0 24 rfl rfl
theorem dksX0_back_2 : cX0_back.data.toList.drop 46 = dktX0_back_2 := dk_seg dksX0_back_1 22 rfl rfl
theorem dX0_back_0 : decode cX0_back 0 = .ok (.iload_n 1, 1) := dk_27 (dk_at dksX0_back_0 0 rfl rfl)
theorem dX0_back_1 : decode cX0_back 1 = .ok (.iconst 0, 1) := dk_3 (dk_at dksX0_back_0 1 rfl rfl)
theorem dX0_back_2 : decode cX0_back 2 = .ok (.iconst 1, 1) := dk_4 (dk_at dksX0_back_0 2 rfl rfl)
theorem dX0_back_3 : decode cX0_back 3 = .ok (.invokestatic 26, 3) := dk_184 0 26 (dk_at dksX0_back_0 3 rfl rfl)
theorem dX0_back_6 : decode cX0_back 6 = .ok (.ifCond .ne 9, 3) := dk_154 0 9 (dk_at dksX0_back_0 6 rfl rfl)
theorem dX0_back_9 : decode cX0_back 9 = .ok (.aload_n 0, 1) := dk_42 (dk_at dksX0_back_0 9 rfl rfl)
theorem dX0_back_10 : decode cX0_back 10 = .ok (.iconst (-1), 1) := dk_2 (dk_at dksX0_back_0 10 rfl rfl)
theorem dX0_back_11 : decode cX0_back 11 = .ok (.invokevirtual 115, 3) := dk_182 0 115 (dk_at dksX0_back_0 11 rfl rfl)
theorem dX0_back_14 : decode cX0_back 14 = .ok (.ireturn, 1) := dk_172 (dk_at dksX0_back_0 14 rfl rfl)
theorem dX0_back_15 : decode cX0_back 15 = .ok (.aload_n 0, 1) := dk_42 (dk_at dksX0_back_0 15 rfl rfl)
theorem dX0_back_16 : decode cX0_back 16 = .ok (.getfield 47, 3) := dk_180 0 47 (dk_at dksX0_back_0 16 rfl rfl)
theorem dX0_back_19 : decode cX0_back 19 = .ok (.iload_n 1, 1) := dk_27 (dk_at dksX0_back_0 19 rfl rfl)
theorem dX0_back_20 : decode cX0_back 20 = .ok (.aaload, 1) := dk_50 (dk_at dksX0_back_0 20 rfl rfl)
theorem dX0_back_21 : decode cX0_back 21 = .ok (.ifnonnull 10, 3) := dk_199 0 10 (dk_at dksX0_back_0 21 rfl rfl)
theorem dX0_back_24 : decode cX0_back 24 = .ok (.aload_n 0, 1) := dk_42 (dk_at dksX0_back_1 0 rfl rfl)
theorem dX0_back_25 : decode cX0_back 25 = .ok (.bipush (-2), 2) := dk_16 254 (dk_at dksX0_back_1 1 rfl rfl)
theorem dX0_back_27 : decode cX0_back 27 = .ok (.invokevirtual 115, 3) := dk_182 0 115 (dk_at dksX0_back_1 3 rfl rfl)
theorem dX0_back_30 : decode cX0_back 30 = .ok (.ireturn, 1) := dk_172 (dk_at dksX0_back_1 6 rfl rfl)
theorem dX0_back_31 : decode cX0_back 31 = .ok (.aload_n 0, 1) := dk_42 (dk_at dksX0_back_1 7 rfl rfl)
theorem dX0_back_32 : decode cX0_back 32 = .ok (.getfield 43, 3) := dk_180 0 43 (dk_at dksX0_back_1 8 rfl rfl)
theorem dX0_back_35 : decode cX0_back 35 = .ok (.aload_n 0, 1) := dk_42 (dk_at dksX0_back_1 11 rfl rfl)
theorem dX0_back_36 : decode cX0_back 36 = .ok (.getfield 47, 3) := dk_180 0 47 (dk_at dksX0_back_1 12 rfl rfl)
theorem dX0_back_39 : decode cX0_back 39 = .ok (.iload_n 1, 1) := dk_27 (dk_at dksX0_back_1 15 rfl rfl)
theorem dX0_back_40 : decode cX0_back 40 = .ok (.aaload, 1) := dk_50 (dk_at dksX0_back_1 16 rfl rfl)
theorem dX0_back_41 : decode cX0_back 41 = .ok (.invokevirtual 118, 3) := dk_182 0 118 (dk_at dksX0_back_1 17 rfl rfl)
theorem dX0_back_44 : decode cX0_back 44 = .ok (.aload_n 0, 1) := dk_42 (dk_at dksX0_back_1 20 rfl rfl)
theorem dX0_back_45 : decode cX0_back 45 = .ok (.iconst 0, 1) := dk_3 (dk_at dksX0_back_1 21 rfl rfl)
theorem dX0_back_46 : decode cX0_back 46 = .ok (.invokevirtual 122, 3) := dk_182 0 122 (dk_at dksX0_back_2 0 rfl rfl)
theorem dX0_back_49 : decode cX0_back 49 = .ok (.ireturn, 1) := dk_172 (dk_at dksX0_back_2 3 rfl rfl)
abbrev cX0_settled : ByteArray := prog_1_method_13_code
def yX0_settled : MethodName := ⟨RX0, "settled", "(I)I"⟩
def dkwX0_settled_0 : List UInt8 := [42, 3, 181, 0, 106, 42, 27, 182, 0, 109, 172]
abbrev dktX0_settled_0 : List UInt8 := dkwX0_settled_0 ++ []
theorem dksX0_settled_0 : cX0_settled.data.toList.drop 0 = dktX0_settled_0 := by decide +kernel
theorem dX0_settled_0 : decode cX0_settled 0 = .ok (.aload_n 0, 1) := dk_42 (dk_at dksX0_settled_0 0 rfl rfl)
theorem dX0_settled_1 : decode cX0_settled 1 = .ok (.iconst 0, 1) := dk_3 (dk_at dksX0_settled_0 1 rfl rfl)
theorem dX0_settled_2 : decode cX0_settled 2 = .ok (.putfield 106, 3) := dk_181 0 106 (dk_at dksX0_settled_0 2 rfl rfl)
theorem dX0_settled_5 : decode cX0_settled 5 = .ok (.aload_n 0, 1) := dk_42 (dk_at dksX0_settled_0 5 rfl rfl)
theorem dX0_settled_6 : decode cX0_settled 6 = .ok (.iload_n 1, 1) := dk_27 (dk_at dksX0_settled_0 6 rfl rfl)
theorem dX0_settled_7 : decode cX0_settled 7 = .ok (.invokevirtual 109, 3) := dk_182 0 109 (dk_at dksX0_settled_0 7 rfl rfl)
theorem dX0_settled_10 : decode cX0_settled 10 = .ok (.ireturn, 1) := dk_172 (dk_at dksX0_settled_0 10 rfl rfl)
abbrev cX0_fort : ByteArray := prog_1_method_20_code
def yX0_fort : MethodName := ⟨RX0, "fort", "(II)I"⟩
def dkwX0_fort_2 : List UInt8 := [4, 100, 182, 0, 122, 172]
abbrev dktX0_fort_2 : List UInt8 := dkwX0_fort_2 ++ []
def dkwX0_fort_1 : List UInt8 := [160, 0, 10, 42, 16, 251, 182, 0, 115, 172, 42, 27, 28, 182, 0, 148, 42, 42, 180, 0, 43, 180, 0, 112]
abbrev dktX0_fort_1 : List UInt8 := dkwX0_fort_1 ++ dktX0_fort_2
def dkwX0_fort_0 : List UInt8 := [27, 28, 184, 0, 144, 154, 0, 9, 42, 2, 182, 0, 115, 172, 42, 180, 0, 43, 180, 0, 112, 16, 6]
abbrev dktX0_fort_0 : List UInt8 := dkwX0_fort_0 ++ dktX0_fort_1
theorem dksX0_fort_0 : cX0_fort.data.toList.drop 0 = dktX0_fort_0 := by decide +kernel
theorem dksX0_fort_1 : cX0_fort.data.toList.drop 23 = dktX0_fort_1 := dk_seg dksX0_fort_0 23 rfl rfl
theorem dksX0_fort_2 : cX0_fort.data.toList.drop 47 = dktX0_fort_2 := dk_seg dksX0_fort_1 24 rfl rfl
theorem dX0_fort_0 : decode cX0_fort 0 = .ok (.iload_n 1, 1) := dk_27 (dk_at dksX0_fort_0 0 rfl rfl)
theorem dX0_fort_1 : decode cX0_fort 1 = .ok (.iload_n 2, 1) := dk_28 (dk_at dksX0_fort_0 1 rfl rfl)
theorem dX0_fort_2 : decode cX0_fort 2 = .ok (.invokestatic 144, 3) := dk_184 0 144 (dk_at dksX0_fort_0 2 rfl rfl)
theorem dX0_fort_5 : decode cX0_fort 5 = .ok (.ifCond .ne 9, 3) := dk_154 0 9 (dk_at dksX0_fort_0 5 rfl rfl)
theorem dX0_fort_8 : decode cX0_fort 8 = .ok (.aload_n 0, 1) := dk_42 (dk_at dksX0_fort_0 8 rfl rfl)
theorem dX0_fort_9 : decode cX0_fort 9 = .ok (.iconst (-1), 1) := dk_2 (dk_at dksX0_fort_0 9 rfl rfl)
theorem dX0_fort_10 : decode cX0_fort 10 = .ok (.invokevirtual 115, 3) := dk_182 0 115 (dk_at dksX0_fort_0 10 rfl rfl)
theorem dX0_fort_13 : decode cX0_fort 13 = .ok (.ireturn, 1) := dk_172 (dk_at dksX0_fort_0 13 rfl rfl)
theorem dX0_fort_14 : decode cX0_fort 14 = .ok (.aload_n 0, 1) := dk_42 (dk_at dksX0_fort_0 14 rfl rfl)
theorem dX0_fort_15 : decode cX0_fort 15 = .ok (.getfield 43, 3) := dk_180 0 43 (dk_at dksX0_fort_0 15 rfl rfl)
theorem dX0_fort_18 : decode cX0_fort 18 = .ok (.getfield 112, 3) := dk_180 0 112 (dk_at dksX0_fort_0 18 rfl rfl)
theorem dX0_fort_21 : decode cX0_fort 21 = .ok (.bipush 6, 2) := dk_16 6 (dk_at dksX0_fort_0 21 rfl rfl)
theorem dX0_fort_23 : decode cX0_fort 23 = .ok (.if_icmp .ne 10, 3) := dk_160 0 10 (dk_at dksX0_fort_1 0 rfl rfl)
theorem dX0_fort_26 : decode cX0_fort 26 = .ok (.aload_n 0, 1) := dk_42 (dk_at dksX0_fort_1 3 rfl rfl)
theorem dX0_fort_27 : decode cX0_fort 27 = .ok (.bipush (-5), 2) := dk_16 251 (dk_at dksX0_fort_1 4 rfl rfl)
theorem dX0_fort_29 : decode cX0_fort 29 = .ok (.invokevirtual 115, 3) := dk_182 0 115 (dk_at dksX0_fort_1 6 rfl rfl)
theorem dX0_fort_32 : decode cX0_fort 32 = .ok (.ireturn, 1) := dk_172 (dk_at dksX0_fort_1 9 rfl rfl)
theorem dX0_fort_33 : decode cX0_fort 33 = .ok (.aload_n 0, 1) := dk_42 (dk_at dksX0_fort_1 10 rfl rfl)
theorem dX0_fort_34 : decode cX0_fort 34 = .ok (.iload_n 1, 1) := dk_27 (dk_at dksX0_fort_1 11 rfl rfl)
theorem dX0_fort_35 : decode cX0_fort 35 = .ok (.iload_n 2, 1) := dk_28 (dk_at dksX0_fort_1 12 rfl rfl)
theorem dX0_fort_36 : decode cX0_fort 36 = .ok (.invokevirtual 148, 3) := dk_182 0 148 (dk_at dksX0_fort_1 13 rfl rfl)
theorem dX0_fort_39 : decode cX0_fort 39 = .ok (.aload_n 0, 1) := dk_42 (dk_at dksX0_fort_1 16 rfl rfl)
theorem dX0_fort_40 : decode cX0_fort 40 = .ok (.aload_n 0, 1) := dk_42 (dk_at dksX0_fort_1 17 rfl rfl)
theorem dX0_fort_41 : decode cX0_fort 41 = .ok (.getfield 43, 3) := dk_180 0 43 (dk_at dksX0_fort_1 18 rfl rfl)
theorem dX0_fort_44 : decode cX0_fort 44 = .ok (.getfield 112, 3) := dk_180 0 112 (dk_at dksX0_fort_1 21 rfl rfl)
theorem dX0_fort_47 : decode cX0_fort 47 = .ok (.iconst 1, 1) := dk_4 (dk_at dksX0_fort_2 0 rfl rfl)
theorem dX0_fort_48 : decode cX0_fort 48 = .ok (.isub, 1) := dk_100 (dk_at dksX0_fort_2 1 rfl rfl)
theorem dX0_fort_49 : decode cX0_fort 49 = .ok (.invokevirtual 122, 3) := dk_182 0 122 (dk_at dksX0_fort_2 2 rfl rfl)
theorem dX0_fort_52 : decode cX0_fort 52 = .ok (.ireturn, 1) := dk_172 (dk_at dksX0_fort_2 5 rfl rfl)
abbrev cX0_canBe : ByteArray := prog_1_method_18_code
def yX0_canBe : MethodName := ⟨RX0, "canBe", "(II)Z"⟩
def dkwX0_canBe_0 : List UInt8 := [26, 3, 16, 99, 184, 0, 26, 153, 0, 14, 27, 184, 0, 125, 153, 0, 7, 4, 167, 0, 4, 3, 172]
abbrev dktX0_canBe_0 : List UInt8 := dkwX0_canBe_0 ++ []
theorem dksX0_canBe_0 : cX0_canBe.data.toList.drop 0 = dktX0_canBe_0 := by decide +kernel
theorem dX0_canBe_0 : decode cX0_canBe 0 = .ok (.iload_n 0, 1) := dk_26 (dk_at dksX0_canBe_0 0 rfl rfl)
theorem dX0_canBe_1 : decode cX0_canBe 1 = .ok (.iconst 0, 1) := dk_3 (dk_at dksX0_canBe_0 1 rfl rfl)
theorem dX0_canBe_2 : decode cX0_canBe 2 = .ok (.bipush 99, 2) := dk_16 99 (dk_at dksX0_canBe_0 2 rfl rfl)
theorem dX0_canBe_4 : decode cX0_canBe 4 = .ok (.invokestatic 26, 3) := dk_184 0 26 (dk_at dksX0_canBe_0 4 rfl rfl)
theorem dX0_canBe_7 : decode cX0_canBe 7 = .ok (.ifCond .eq 14, 3) := dk_153 0 14 (dk_at dksX0_canBe_0 7 rfl rfl)
theorem dX0_canBe_10 : decode cX0_canBe 10 = .ok (.iload_n 1, 1) := dk_27 (dk_at dksX0_canBe_0 10 rfl rfl)
theorem dX0_canBe_11 : decode cX0_canBe 11 = .ok (.invokestatic 125, 3) := dk_184 0 125 (dk_at dksX0_canBe_0 11 rfl rfl)
theorem dX0_canBe_14 : decode cX0_canBe 14 = .ok (.ifCond .eq 7, 3) := dk_153 0 7 (dk_at dksX0_canBe_0 14 rfl rfl)
theorem dX0_canBe_17 : decode cX0_canBe 17 = .ok (.iconst 1, 1) := dk_4 (dk_at dksX0_canBe_0 17 rfl rfl)
theorem dX0_canBe_18 : decode cX0_canBe 18 = .ok (.goto 4, 3) := dk_167 0 4 (dk_at dksX0_canBe_0 18 rfl rfl)
theorem dX0_canBe_21 : decode cX0_canBe 21 = .ok (.iconst 0, 1) := dk_3 (dk_at dksX0_canBe_0 21 rfl rfl)
theorem dX0_canBe_22 : decode cX0_canBe 22 = .ok (.ireturn, 1) := dk_172 (dk_at dksX0_canBe_0 22 rfl rfl)
abbrev cX0_isGeneral : ByteArray := prog_1_method_15_code
def yX0_isGeneral : MethodName := ⟨RX0, "isGeneral", "(I)Z"⟩
def dkwX0_isGeneral_0 : List UInt8 := [26, 3, 6, 184, 0, 26, 172]
abbrev dktX0_isGeneral_0 : List UInt8 := dkwX0_isGeneral_0 ++ []
theorem dksX0_isGeneral_0 : cX0_isGeneral.data.toList.drop 0 = dktX0_isGeneral_0 := by decide +kernel
theorem dX0_isGeneral_0 : decode cX0_isGeneral 0 = .ok (.iload_n 0, 1) := dk_26 (dk_at dksX0_isGeneral_0 0 rfl rfl)
theorem dX0_isGeneral_1 : decode cX0_isGeneral 1 = .ok (.iconst 0, 1) := dk_3 (dk_at dksX0_isGeneral_0 1 rfl rfl)
theorem dX0_isGeneral_2 : decode cX0_isGeneral 2 = .ok (.iconst 3, 1) := dk_6 (dk_at dksX0_isGeneral_0 2 rfl rfl)
theorem dX0_isGeneral_3 : decode cX0_isGeneral 3 = .ok (.invokestatic 26, 3) := dk_184 0 26 (dk_at dksX0_isGeneral_0 3 rfl rfl)
theorem dX0_isGeneral_6 : decode cX0_isGeneral 6 = .ok (.ireturn, 1) := dk_172 (dk_at dksX0_isGeneral_0 6 rfl rfl)
abbrev cX0_adds : ByteArray := prog_1_method_19_code
def yX0_adds : MethodName := ⟨RX0, "adds", "(II)V"⟩
def dkwX0_adds_2 : List UInt8 := [4, 29, 120, 2, 130, 126, 181, 0, 141, 42, 180, 0, 43, 89, 180, 0, 112, 4, 96, 181, 0, 112, 177]
abbrev dktX0_adds_2 : List UInt8 := dkwX0_adds_2 ++ []
def dkwX0_adds_1 : List UInt8 := [180, 0, 135, 29, 27, 79, 42, 182, 0, 132, 180, 0, 138, 29, 3, 79, 42, 182, 0, 132, 89, 180, 0, 141]
abbrev dktX0_adds_1 : List UInt8 := dkwX0_adds_1 ++ dktX0_adds_2
def dkwX0_adds_0 : List UInt8 := [42, 180, 0, 43, 180, 0, 112, 62, 42, 180, 0, 43, 180, 0, 129, 29, 28, 79, 42, 182, 0, 132]
abbrev dktX0_adds_0 : List UInt8 := dkwX0_adds_0 ++ dktX0_adds_1
theorem dksX0_adds_0 : cX0_adds.data.toList.drop 0 = dktX0_adds_0 := by decide +kernel
theorem dksX0_adds_1 : cX0_adds.data.toList.drop 22 = dktX0_adds_1 := dk_seg dksX0_adds_0 22 rfl rfl
theorem dksX0_adds_2 : cX0_adds.data.toList.drop 46 = dktX0_adds_2 := dk_seg dksX0_adds_1 24 rfl rfl
theorem dX0_adds_0 : decode cX0_adds 0 = .ok (.aload_n 0, 1) := dk_42 (dk_at dksX0_adds_0 0 rfl rfl)
theorem dX0_adds_1 : decode cX0_adds 1 = .ok (.getfield 43, 3) := dk_180 0 43 (dk_at dksX0_adds_0 1 rfl rfl)
theorem dX0_adds_4 : decode cX0_adds 4 = .ok (.getfield 112, 3) := dk_180 0 112 (dk_at dksX0_adds_0 4 rfl rfl)
theorem dX0_adds_7 : decode cX0_adds 7 = .ok (.istore_n 3, 1) := dk_62 (dk_at dksX0_adds_0 7 rfl rfl)
theorem dX0_adds_8 : decode cX0_adds 8 = .ok (.aload_n 0, 1) := dk_42 (dk_at dksX0_adds_0 8 rfl rfl)
theorem dX0_adds_9 : decode cX0_adds 9 = .ok (.getfield 43, 3) := dk_180 0 43 (dk_at dksX0_adds_0 9 rfl rfl)
theorem dX0_adds_12 : decode cX0_adds 12 = .ok (.getfield 129, 3) := dk_180 0 129 (dk_at dksX0_adds_0 12 rfl rfl)
theorem dX0_adds_15 : decode cX0_adds 15 = .ok (.iload_n 3, 1) := dk_29 (dk_at dksX0_adds_0 15 rfl rfl)
theorem dX0_adds_16 : decode cX0_adds 16 = .ok (.iload_n 2, 1) := dk_28 (dk_at dksX0_adds_0 16 rfl rfl)
theorem dX0_adds_17 : decode cX0_adds 17 = .ok (.iastore, 1) := dk_79 (dk_at dksX0_adds_0 17 rfl rfl)
theorem dX0_adds_18 : decode cX0_adds 18 = .ok (.aload_n 0, 1) := dk_42 (dk_at dksX0_adds_0 18 rfl rfl)
theorem dX0_adds_19 : decode cX0_adds 19 = .ok (.invokevirtual 132, 3) := dk_182 0 132 (dk_at dksX0_adds_0 19 rfl rfl)
theorem dX0_adds_22 : decode cX0_adds 22 = .ok (.getfield 135, 3) := dk_180 0 135 (dk_at dksX0_adds_1 0 rfl rfl)
theorem dX0_adds_25 : decode cX0_adds 25 = .ok (.iload_n 3, 1) := dk_29 (dk_at dksX0_adds_1 3 rfl rfl)
theorem dX0_adds_26 : decode cX0_adds 26 = .ok (.iload_n 1, 1) := dk_27 (dk_at dksX0_adds_1 4 rfl rfl)
theorem dX0_adds_27 : decode cX0_adds 27 = .ok (.iastore, 1) := dk_79 (dk_at dksX0_adds_1 5 rfl rfl)
theorem dX0_adds_28 : decode cX0_adds 28 = .ok (.aload_n 0, 1) := dk_42 (dk_at dksX0_adds_1 6 rfl rfl)
theorem dX0_adds_29 : decode cX0_adds 29 = .ok (.invokevirtual 132, 3) := dk_182 0 132 (dk_at dksX0_adds_1 7 rfl rfl)
theorem dX0_adds_32 : decode cX0_adds 32 = .ok (.getfield 138, 3) := dk_180 0 138 (dk_at dksX0_adds_1 10 rfl rfl)
theorem dX0_adds_35 : decode cX0_adds 35 = .ok (.iload_n 3, 1) := dk_29 (dk_at dksX0_adds_1 13 rfl rfl)
theorem dX0_adds_36 : decode cX0_adds 36 = .ok (.iconst 0, 1) := dk_3 (dk_at dksX0_adds_1 14 rfl rfl)
theorem dX0_adds_37 : decode cX0_adds 37 = .ok (.iastore, 1) := dk_79 (dk_at dksX0_adds_1 15 rfl rfl)
theorem dX0_adds_38 : decode cX0_adds 38 = .ok (.aload_n 0, 1) := dk_42 (dk_at dksX0_adds_1 16 rfl rfl)
theorem dX0_adds_39 : decode cX0_adds 39 = .ok (.invokevirtual 132, 3) := dk_182 0 132 (dk_at dksX0_adds_1 17 rfl rfl)
theorem dX0_adds_42 : decode cX0_adds 42 = .ok (.dup, 1) := dk_89 (dk_at dksX0_adds_1 20 rfl rfl)
theorem dX0_adds_43 : decode cX0_adds 43 = .ok (.getfield 141, 3) := dk_180 0 141 (dk_at dksX0_adds_1 21 rfl rfl)
theorem dX0_adds_46 : decode cX0_adds 46 = .ok (.iconst 1, 1) := dk_4 (dk_at dksX0_adds_2 0 rfl rfl)
theorem dX0_adds_47 : decode cX0_adds 47 = .ok (.iload_n 3, 1) := dk_29 (dk_at dksX0_adds_2 1 rfl rfl)
theorem dX0_adds_48 : decode cX0_adds 48 = .ok (.ishl, 1) := dk_120 (dk_at dksX0_adds_2 2 rfl rfl)
theorem dX0_adds_49 : decode cX0_adds 49 = .ok (.iconst (-1), 1) := dk_2 (dk_at dksX0_adds_2 3 rfl rfl)
theorem dX0_adds_50 : decode cX0_adds 50 = .ok (.ixor, 1) := dk_130 (dk_at dksX0_adds_2 4 rfl rfl)
theorem dX0_adds_51 : decode cX0_adds 51 = .ok (.iand, 1) := dk_126 (dk_at dksX0_adds_2 5 rfl rfl)
theorem dX0_adds_52 : decode cX0_adds 52 = .ok (.putfield 141, 3) := dk_181 0 141 (dk_at dksX0_adds_2 6 rfl rfl)
theorem dX0_adds_55 : decode cX0_adds 55 = .ok (.aload_n 0, 1) := dk_42 (dk_at dksX0_adds_2 9 rfl rfl)
theorem dX0_adds_56 : decode cX0_adds 56 = .ok (.getfield 43, 3) := dk_180 0 43 (dk_at dksX0_adds_2 10 rfl rfl)
theorem dX0_adds_59 : decode cX0_adds 59 = .ok (.dup, 1) := dk_89 (dk_at dksX0_adds_2 13 rfl rfl)
theorem dX0_adds_60 : decode cX0_adds 60 = .ok (.getfield 112, 3) := dk_180 0 112 (dk_at dksX0_adds_2 14 rfl rfl)
theorem dX0_adds_63 : decode cX0_adds 63 = .ok (.iconst 1, 1) := dk_4 (dk_at dksX0_adds_2 17 rfl rfl)
theorem dX0_adds_64 : decode cX0_adds 64 = .ok (.iadd, 1) := dk_96 (dk_at dksX0_adds_2 18 rfl rfl)
theorem dX0_adds_65 : decode cX0_adds 65 = .ok (.putfield 112, 3) := dk_181 0 112 (dk_at dksX0_adds_2 19 rfl rfl)
theorem dX0_adds_68 : decode cX0_adds 68 = .ok (.return_, 1) := dk_177 (dk_at dksX0_adds_2 22 rfl rfl)
abbrev cX0_table : ByteArray := prog_1_method_12_code
def yX0_table : MethodName := ⟨RX0, "table", "()LOpenGates$Table;"⟩
def dkwX0_table_0 : List UInt8 := [42, 180, 0, 43, 180, 0, 103, 176]
abbrev dktX0_table_0 : List UInt8 := dkwX0_table_0 ++ []
theorem dksX0_table_0 : cX0_table.data.toList.drop 0 = dktX0_table_0 := by decide +kernel
theorem dX0_table_0 : decode cX0_table 0 = .ok (.aload_n 0, 1) := dk_42 (dk_at dksX0_table_0 0 rfl rfl)
theorem dX0_table_1 : decode cX0_table 1 = .ok (.getfield 43, 3) := dk_180 0 43 (dk_at dksX0_table_0 1 rfl rfl)
theorem dX0_table_4 : decode cX0_table 4 = .ok (.getfield 103, 3) := dk_180 0 103 (dk_at dksX0_table_0 4 rfl rfl)
theorem dX0_table_7 : decode cX0_table 7 = .ok (.areturn, 1) := dk_176 (dk_at dksX0_table_0 7 rfl rfl)
abbrev cX0_of : ByteArray := prog_1_method_21_code
def yX0_of : MethodName := ⟨RX0, "of", "(II)I"⟩
def dkwX0_of_4 : List UInt8 := [182, 0, 158, 172, 2, 172]
abbrev dktX0_of_4 : List UInt8 := dkwX0_of_4 ++ []
def dkwX0_of_3 : List UInt8 := [45, 27, 182, 0, 155, 153, 0, 7, 4, 167, 0, 4, 3, 172, 42, 45, 27, 45, 180, 0, 138, 27, 46]
abbrev dktX0_of_3 : List UInt8 := dkwX0_of_3 ++ dktX0_of_4
def dkwX0_of_2 : List UInt8 := [45, 180, 0, 135, 27, 46, 172, 42, 180, 0, 43, 180, 0, 129, 27, 46, 172, 45, 180, 0, 138, 27, 46, 172]
abbrev dktX0_of_2 : List UInt8 := dkwX0_of_2 ++ dktX0_of_3
def dkwX0_of_1 : List UInt8 := [170, 0, 0, 0, 0, 0, 0, 87, 0, 0, 0, 0, 0, 0, 0, 4, 0, 0, 0, 36, 0, 0, 0, 43, 0, 0, 0, 53, 0, 0, 0, 60, 0, 0, 0, 74]
abbrev dktX0_of_1 : List UInt8 := dkwX0_of_1 ++ dktX0_of_2
def dkwX0_of_0 : List UInt8 := [42, 27, 182, 0, 152, 154, 0, 5, 2, 172, 42, 182, 0, 132, 78, 28]
abbrev dktX0_of_0 : List UInt8 := dkwX0_of_0 ++ dktX0_of_1
theorem dksX0_of_0 : cX0_of.data.toList.drop 0 = dktX0_of_0 := by decide +kernel
theorem dksX0_of_1 : cX0_of.data.toList.drop 16 = dktX0_of_1 := dk_seg dksX0_of_0 16 rfl rfl
theorem dksX0_of_2 : cX0_of.data.toList.drop 52 = dktX0_of_2 := dk_seg dksX0_of_1 36 rfl rfl
theorem dksX0_of_3 : cX0_of.data.toList.drop 76 = dktX0_of_3 := dk_seg dksX0_of_2 24 rfl rfl
theorem dksX0_of_4 : cX0_of.data.toList.drop 99 = dktX0_of_4 := dk_seg dksX0_of_3 23 rfl rfl
theorem dX0_of_0 : decode cX0_of 0 = .ok (.aload_n 0, 1) := dk_42 (dk_at dksX0_of_0 0 rfl rfl)
theorem dX0_of_1 : decode cX0_of 1 = .ok (.iload_n 1, 1) := dk_27 (dk_at dksX0_of_0 1 rfl rfl)
theorem dX0_of_2 : decode cX0_of 2 = .ok (.invokevirtual 152, 3) := dk_182 0 152 (dk_at dksX0_of_0 2 rfl rfl)
theorem dX0_of_5 : decode cX0_of 5 = .ok (.ifCond .ne 5, 3) := dk_154 0 5 (dk_at dksX0_of_0 5 rfl rfl)
theorem dX0_of_8 : decode cX0_of 8 = .ok (.iconst (-1), 1) := dk_2 (dk_at dksX0_of_0 8 rfl rfl)
theorem dX0_of_9 : decode cX0_of 9 = .ok (.ireturn, 1) := dk_172 (dk_at dksX0_of_0 9 rfl rfl)
theorem dX0_of_10 : decode cX0_of 10 = .ok (.aload_n 0, 1) := dk_42 (dk_at dksX0_of_0 10 rfl rfl)
theorem dX0_of_11 : decode cX0_of 11 = .ok (.invokevirtual 132, 3) := dk_182 0 132 (dk_at dksX0_of_0 11 rfl rfl)
theorem dX0_of_14 : decode cX0_of 14 = .ok (.astore_n 3, 1) := dk_78 (dk_at dksX0_of_0 14 rfl rfl)
theorem dX0_of_15 : decode cX0_of 15 = .ok (.iload_n 2, 1) := dk_28 (dk_at dksX0_of_0 15 rfl rfl)
theorem dX0_of_16 : decode cX0_of 16 = .ok (.tableswitch 87 0 4 #[36, 43, 53, 60, 74], 36) := by decide +kernel
theorem dX0_of_52 : decode cX0_of 52 = .ok (.aload_n 3, 1) := dk_45 (dk_at dksX0_of_2 0 rfl rfl)
theorem dX0_of_53 : decode cX0_of 53 = .ok (.getfield 135, 3) := dk_180 0 135 (dk_at dksX0_of_2 1 rfl rfl)
theorem dX0_of_56 : decode cX0_of 56 = .ok (.iload_n 1, 1) := dk_27 (dk_at dksX0_of_2 4 rfl rfl)
theorem dX0_of_57 : decode cX0_of 57 = .ok (.iaload, 1) := dk_46 (dk_at dksX0_of_2 5 rfl rfl)
theorem dX0_of_58 : decode cX0_of 58 = .ok (.ireturn, 1) := dk_172 (dk_at dksX0_of_2 6 rfl rfl)
theorem dX0_of_59 : decode cX0_of 59 = .ok (.aload_n 0, 1) := dk_42 (dk_at dksX0_of_2 7 rfl rfl)
theorem dX0_of_60 : decode cX0_of 60 = .ok (.getfield 43, 3) := dk_180 0 43 (dk_at dksX0_of_2 8 rfl rfl)
theorem dX0_of_63 : decode cX0_of 63 = .ok (.getfield 129, 3) := dk_180 0 129 (dk_at dksX0_of_2 11 rfl rfl)
theorem dX0_of_66 : decode cX0_of 66 = .ok (.iload_n 1, 1) := dk_27 (dk_at dksX0_of_2 14 rfl rfl)
theorem dX0_of_67 : decode cX0_of 67 = .ok (.iaload, 1) := dk_46 (dk_at dksX0_of_2 15 rfl rfl)
theorem dX0_of_68 : decode cX0_of 68 = .ok (.ireturn, 1) := dk_172 (dk_at dksX0_of_2 16 rfl rfl)
theorem dX0_of_69 : decode cX0_of 69 = .ok (.aload_n 3, 1) := dk_45 (dk_at dksX0_of_2 17 rfl rfl)
theorem dX0_of_70 : decode cX0_of 70 = .ok (.getfield 138, 3) := dk_180 0 138 (dk_at dksX0_of_2 18 rfl rfl)
theorem dX0_of_73 : decode cX0_of 73 = .ok (.iload_n 1, 1) := dk_27 (dk_at dksX0_of_2 21 rfl rfl)
theorem dX0_of_74 : decode cX0_of 74 = .ok (.iaload, 1) := dk_46 (dk_at dksX0_of_2 22 rfl rfl)
theorem dX0_of_75 : decode cX0_of 75 = .ok (.ireturn, 1) := dk_172 (dk_at dksX0_of_2 23 rfl rfl)
theorem dX0_of_76 : decode cX0_of 76 = .ok (.aload_n 3, 1) := dk_45 (dk_at dksX0_of_3 0 rfl rfl)
theorem dX0_of_77 : decode cX0_of 77 = .ok (.iload_n 1, 1) := dk_27 (dk_at dksX0_of_3 1 rfl rfl)
theorem dX0_of_78 : decode cX0_of 78 = .ok (.invokevirtual 155, 3) := dk_182 0 155 (dk_at dksX0_of_3 2 rfl rfl)
theorem dX0_of_81 : decode cX0_of 81 = .ok (.ifCond .eq 7, 3) := dk_153 0 7 (dk_at dksX0_of_3 5 rfl rfl)
theorem dX0_of_84 : decode cX0_of 84 = .ok (.iconst 1, 1) := dk_4 (dk_at dksX0_of_3 8 rfl rfl)
theorem dX0_of_85 : decode cX0_of 85 = .ok (.goto 4, 3) := dk_167 0 4 (dk_at dksX0_of_3 9 rfl rfl)
theorem dX0_of_88 : decode cX0_of 88 = .ok (.iconst 0, 1) := dk_3 (dk_at dksX0_of_3 12 rfl rfl)
theorem dX0_of_89 : decode cX0_of 89 = .ok (.ireturn, 1) := dk_172 (dk_at dksX0_of_3 13 rfl rfl)
theorem dX0_of_90 : decode cX0_of 90 = .ok (.aload_n 0, 1) := dk_42 (dk_at dksX0_of_3 14 rfl rfl)
theorem dX0_of_91 : decode cX0_of 91 = .ok (.aload_n 3, 1) := dk_45 (dk_at dksX0_of_3 15 rfl rfl)
theorem dX0_of_92 : decode cX0_of 92 = .ok (.iload_n 1, 1) := dk_27 (dk_at dksX0_of_3 16 rfl rfl)
theorem dX0_of_93 : decode cX0_of 93 = .ok (.aload_n 3, 1) := dk_45 (dk_at dksX0_of_3 17 rfl rfl)
theorem dX0_of_94 : decode cX0_of 94 = .ok (.getfield 138, 3) := dk_180 0 138 (dk_at dksX0_of_3 18 rfl rfl)
theorem dX0_of_97 : decode cX0_of 97 = .ok (.iload_n 1, 1) := dk_27 (dk_at dksX0_of_3 21 rfl rfl)
theorem dX0_of_98 : decode cX0_of 98 = .ok (.iaload, 1) := dk_46 (dk_at dksX0_of_3 22 rfl rfl)
theorem dX0_of_99 : decode cX0_of 99 = .ok (.invokevirtual 158, 3) := dk_182 0 158 (dk_at dksX0_of_4 0 rfl rfl)
theorem dX0_of_102 : decode cX0_of 102 = .ok (.ireturn, 1) := dk_172 (dk_at dksX0_of_4 3 rfl rfl)
theorem dX0_of_103 : decode cX0_of 103 = .ok (.iconst (-1), 1) := dk_2 (dk_at dksX0_of_4 4 rfl rfl)
theorem dX0_of_104 : decode cX0_of 104 = .ok (.ireturn, 1) := dk_172 (dk_at dksX0_of_4 5 rfl rfl)
abbrev cX0_isFort : ByteArray := prog_1_method_14_code
def yX0_isFort : MethodName := ⟨RX0, "isFort", "(I)Z"⟩
def dkwX0_isFort_0 : List UInt8 := [27, 3, 42, 180, 0, 43, 180, 0, 112, 4, 100, 184, 0, 26, 172]
abbrev dktX0_isFort_0 : List UInt8 := dkwX0_isFort_0 ++ []
theorem dksX0_isFort_0 : cX0_isFort.data.toList.drop 0 = dktX0_isFort_0 := by decide +kernel
theorem dX0_isFort_0 : decode cX0_isFort 0 = .ok (.iload_n 1, 1) := dk_27 (dk_at dksX0_isFort_0 0 rfl rfl)
theorem dX0_isFort_1 : decode cX0_isFort 1 = .ok (.iconst 0, 1) := dk_3 (dk_at dksX0_isFort_0 1 rfl rfl)
theorem dX0_isFort_2 : decode cX0_isFort 2 = .ok (.aload_n 0, 1) := dk_42 (dk_at dksX0_isFort_0 2 rfl rfl)
theorem dX0_isFort_3 : decode cX0_isFort 3 = .ok (.getfield 43, 3) := dk_180 0 43 (dk_at dksX0_isFort_0 3 rfl rfl)
theorem dX0_isFort_6 : decode cX0_isFort 6 = .ok (.getfield 112, 3) := dk_180 0 112 (dk_at dksX0_isFort_0 6 rfl rfl)
theorem dX0_isFort_9 : decode cX0_isFort 9 = .ok (.iconst 1, 1) := dk_4 (dk_at dksX0_isFort_0 9 rfl rfl)
theorem dX0_isFort_10 : decode cX0_isFort 10 = .ok (.isub, 1) := dk_100 (dk_at dksX0_isFort_0 10 rfl rfl)
theorem dX0_isFort_11 : decode cX0_isFort 11 = .ok (.invokestatic 26, 3) := dk_184 0 26 (dk_at dksX0_isFort_0 11 rfl rfl)
theorem dX0_isFort_14 : decode cX0_isFort 14 = .ok (.ireturn, 1) := dk_172 (dk_at dksX0_isFort_0 14 rfl rfl)
abbrev cX0_isOf : ByteArray := prog_1_method_4_code
def yX0_isOf : MethodName := ⟨RX0, "isOf", "(II)Z"⟩
def dkwX0_isOf_0 : List UInt8 := [26, 27, 122, 4, 126, 4, 160, 0, 7, 4, 167, 0, 4, 3, 172]
abbrev dktX0_isOf_0 : List UInt8 := dkwX0_isOf_0 ++ []
theorem dksX0_isOf_0 : cX0_isOf.data.toList.drop 0 = dktX0_isOf_0 := by decide +kernel
theorem dX0_isOf_0 : decode cX0_isOf 0 = .ok (.iload_n 0, 1) := dk_26 (dk_at dksX0_isOf_0 0 rfl rfl)
theorem dX0_isOf_1 : decode cX0_isOf 1 = .ok (.iload_n 1, 1) := dk_27 (dk_at dksX0_isOf_0 1 rfl rfl)
theorem dX0_isOf_2 : decode cX0_isOf 2 = .ok (.ishr, 1) := dk_122 (dk_at dksX0_isOf_0 2 rfl rfl)
theorem dX0_isOf_3 : decode cX0_isOf 3 = .ok (.iconst 1, 1) := dk_4 (dk_at dksX0_isOf_0 3 rfl rfl)
theorem dX0_isOf_4 : decode cX0_isOf 4 = .ok (.iand, 1) := dk_126 (dk_at dksX0_isOf_0 4 rfl rfl)
theorem dX0_isOf_5 : decode cX0_isOf 5 = .ok (.iconst 1, 1) := dk_4 (dk_at dksX0_isOf_0 5 rfl rfl)
theorem dX0_isOf_6 : decode cX0_isOf 6 = .ok (.if_icmp .ne 7, 3) := dk_160 0 7 (dk_at dksX0_isOf_0 6 rfl rfl)
theorem dX0_isOf_9 : decode cX0_isOf 9 = .ok (.iconst 1, 1) := dk_4 (dk_at dksX0_isOf_0 9 rfl rfl)
theorem dX0_isOf_10 : decode cX0_isOf 10 = .ok (.goto 4, 3) := dk_167 0 4 (dk_at dksX0_isOf_0 10 rfl rfl)
theorem dX0_isOf_13 : decode cX0_isOf 13 = .ok (.iconst 0, 1) := dk_3 (dk_at dksX0_isOf_0 13 rfl rfl)
theorem dX0_isOf_14 : decode cX0_isOf 14 = .ok (.ireturn, 1) := dk_172 (dk_at dksX0_isOf_0 14 rfl rfl)
abbrev cX0_belief : ByteArray := prog_1_method_36_code
def yX0_belief : MethodName := ⟨RX0, "belief", "(LOpenGates$Table;II)I"⟩
def dkwX0_belief_8 : List UInt8 := [16, 100, 21, 12, 100, 133, 22, 8, 105, 97, 20, 0, 250, 109, 136, 172]
abbrev dktX0_belief_8 : List UInt8 := dkwX0_belief_8 ++ []
def dkwX0_belief_7 : List UInt8 := [55, 10, 43, 180, 0, 177, 42, 180, 0, 43, 180, 0, 129, 28, 46, 46, 54, 12, 21, 12, 133, 22, 10, 105]
abbrev dktX0_belief_7 : List UInt8 := dkwX0_belief_7 ++ dktX0_belief_8
def dkwX0_belief_6 : List UInt8 := [97, 9, 148, 154, 0, 8, 22, 8, 167, 0, 15, 22, 4, 20, 0, 248, 105, 22, 4, 22, 6, 97, 109]
abbrev dktX0_belief_6 : List UInt8 := dkwX0_belief_6 ++ dktX0_belief_7
def dkwX0_belief_5 : List UInt8 := [132, 8, 1, 167, 255, 162, 42, 180, 0, 43, 180, 0, 183, 133, 20, 0, 243, 105, 55, 8, 22, 4, 22, 6]
abbrev dktX0_belief_5 : List UInt8 := dkwX0_belief_5 ++ dktX0_belief_6
def dkwX0_belief_4 : List UInt8 := [21, 8, 46, 133, 167, 0, 17, 16, 10, 42, 180, 0, 43, 180, 0, 168, 21, 8, 46, 100, 133, 105, 55, 6]
abbrev dktX0_belief_4 : List UInt8 := dkwX0_belief_4 ++ dktX0_belief_5
def dkwX0_belief_3 : List UInt8 := [46, 100, 133, 105, 55, 4, 22, 6, 29, 21, 8, 184, 0, 245, 153, 0, 17, 42, 180, 0, 43, 180, 0, 168]
abbrev dktX0_belief_3 : List UInt8 := dkwX0_belief_3 ++ dktX0_belief_4
def dkwX0_belief_2 : List UInt8 := [180, 0, 43, 180, 0, 165, 21, 8, 46, 133, 167, 0, 17, 16, 10, 42, 180, 0, 43, 180, 0, 165, 21, 8]
abbrev dktX0_belief_2 : List UInt8 := dkwX0_belief_2 ++ dktX0_belief_3
def dkwX0_belief_1 : List UInt8 := [3, 54, 8, 21, 8, 16, 6, 162, 0, 93, 22, 4, 29, 21, 8, 184, 0, 245, 153, 0, 17, 42]
abbrev dktX0_belief_1 : List UInt8 := dkwX0_belief_1 ++ dktX0_belief_2
def dkwX0_belief_0 : List UInt8 := [42, 180, 0, 43, 180, 0, 183, 133, 55, 4, 20, 0, 243, 42, 180, 0, 43, 180, 0, 183, 133, 101, 55, 6]
abbrev dktX0_belief_0 : List UInt8 := dkwX0_belief_0 ++ dktX0_belief_1
theorem dksX0_belief_0 : cX0_belief.data.toList.drop 0 = dktX0_belief_0 := by decide +kernel
theorem dksX0_belief_1 : cX0_belief.data.toList.drop 24 = dktX0_belief_1 := dk_seg dksX0_belief_0 24 rfl rfl
theorem dksX0_belief_2 : cX0_belief.data.toList.drop 46 = dktX0_belief_2 := dk_seg dksX0_belief_1 22 rfl rfl
theorem dksX0_belief_3 : cX0_belief.data.toList.drop 70 = dktX0_belief_3 := dk_seg dksX0_belief_2 24 rfl rfl
theorem dksX0_belief_4 : cX0_belief.data.toList.drop 94 = dktX0_belief_4 := dk_seg dksX0_belief_3 24 rfl rfl
theorem dksX0_belief_5 : cX0_belief.data.toList.drop 118 = dktX0_belief_5 := dk_seg dksX0_belief_4 24 rfl rfl
theorem dksX0_belief_6 : cX0_belief.data.toList.drop 142 = dktX0_belief_6 := dk_seg dksX0_belief_5 24 rfl rfl
theorem dksX0_belief_7 : cX0_belief.data.toList.drop 165 = dktX0_belief_7 := dk_seg dksX0_belief_6 23 rfl rfl
theorem dksX0_belief_8 : cX0_belief.data.toList.drop 189 = dktX0_belief_8 := dk_seg dksX0_belief_7 24 rfl rfl
theorem dX0_belief_0 : decode cX0_belief 0 = .ok (.aload_n 0, 1) := dk_42 (dk_at dksX0_belief_0 0 rfl rfl)
theorem dX0_belief_1 : decode cX0_belief 1 = .ok (.getfield 43, 3) := dk_180 0 43 (dk_at dksX0_belief_0 1 rfl rfl)
theorem dX0_belief_4 : decode cX0_belief 4 = .ok (.getfield 183, 3) := dk_180 0 183 (dk_at dksX0_belief_0 4 rfl rfl)
theorem dX0_belief_7 : decode cX0_belief 7 = .ok (.i2l, 1) := dk_133 (dk_at dksX0_belief_0 7 rfl rfl)
theorem dX0_belief_8 : decode cX0_belief 8 = .ok (.lstore 4, 2) := dk_55 4 (dk_at dksX0_belief_0 8 rfl rfl)
theorem dX0_belief_10 : decode cX0_belief 10 = .ok (.ldc2_w 243, 3) := dk_20 0 243 (dk_at dksX0_belief_0 10 rfl rfl)
theorem dX0_belief_13 : decode cX0_belief 13 = .ok (.aload_n 0, 1) := dk_42 (dk_at dksX0_belief_0 13 rfl rfl)
theorem dX0_belief_14 : decode cX0_belief 14 = .ok (.getfield 43, 3) := dk_180 0 43 (dk_at dksX0_belief_0 14 rfl rfl)
theorem dX0_belief_17 : decode cX0_belief 17 = .ok (.getfield 183, 3) := dk_180 0 183 (dk_at dksX0_belief_0 17 rfl rfl)
theorem dX0_belief_20 : decode cX0_belief 20 = .ok (.i2l, 1) := dk_133 (dk_at dksX0_belief_0 20 rfl rfl)
theorem dX0_belief_21 : decode cX0_belief 21 = .ok (.lsub, 1) := dk_101 (dk_at dksX0_belief_0 21 rfl rfl)
theorem dX0_belief_22 : decode cX0_belief 22 = .ok (.lstore 6, 2) := dk_55 6 (dk_at dksX0_belief_0 22 rfl rfl)
theorem dX0_belief_24 : decode cX0_belief 24 = .ok (.iconst 0, 1) := dk_3 (dk_at dksX0_belief_1 0 rfl rfl)
theorem dX0_belief_25 : decode cX0_belief 25 = .ok (.istore 8, 2) := dk_54 8 (dk_at dksX0_belief_1 1 rfl rfl)
theorem dX0_belief_27 : decode cX0_belief 27 = .ok (.iload 8, 2) := dk_21 8 (dk_at dksX0_belief_1 3 rfl rfl)
theorem dX0_belief_29 : decode cX0_belief 29 = .ok (.bipush 6, 2) := dk_16 6 (dk_at dksX0_belief_1 5 rfl rfl)
theorem dX0_belief_31 : decode cX0_belief 31 = .ok (.if_icmp .ge 93, 3) := dk_162 0 93 (dk_at dksX0_belief_1 7 rfl rfl)
theorem dX0_belief_34 : decode cX0_belief 34 = .ok (.lload 4, 2) := dk_22 4 (dk_at dksX0_belief_1 10 rfl rfl)
theorem dX0_belief_36 : decode cX0_belief 36 = .ok (.iload_n 3, 1) := dk_29 (dk_at dksX0_belief_1 12 rfl rfl)
theorem dX0_belief_37 : decode cX0_belief 37 = .ok (.iload 8, 2) := dk_21 8 (dk_at dksX0_belief_1 13 rfl rfl)
theorem dX0_belief_39 : decode cX0_belief 39 = .ok (.invokestatic 245, 3) := dk_184 0 245 (dk_at dksX0_belief_1 15 rfl rfl)
theorem dX0_belief_42 : decode cX0_belief 42 = .ok (.ifCond .eq 17, 3) := dk_153 0 17 (dk_at dksX0_belief_1 18 rfl rfl)
theorem dX0_belief_45 : decode cX0_belief 45 = .ok (.aload_n 0, 1) := dk_42 (dk_at dksX0_belief_1 21 rfl rfl)
theorem dX0_belief_46 : decode cX0_belief 46 = .ok (.getfield 43, 3) := dk_180 0 43 (dk_at dksX0_belief_2 0 rfl rfl)
theorem dX0_belief_49 : decode cX0_belief 49 = .ok (.getfield 165, 3) := dk_180 0 165 (dk_at dksX0_belief_2 3 rfl rfl)
theorem dX0_belief_52 : decode cX0_belief 52 = .ok (.iload 8, 2) := dk_21 8 (dk_at dksX0_belief_2 6 rfl rfl)
theorem dX0_belief_54 : decode cX0_belief 54 = .ok (.iaload, 1) := dk_46 (dk_at dksX0_belief_2 8 rfl rfl)
theorem dX0_belief_55 : decode cX0_belief 55 = .ok (.i2l, 1) := dk_133 (dk_at dksX0_belief_2 9 rfl rfl)
theorem dX0_belief_56 : decode cX0_belief 56 = .ok (.goto 17, 3) := dk_167 0 17 (dk_at dksX0_belief_2 10 rfl rfl)
theorem dX0_belief_59 : decode cX0_belief 59 = .ok (.bipush 10, 2) := dk_16 10 (dk_at dksX0_belief_2 13 rfl rfl)
theorem dX0_belief_61 : decode cX0_belief 61 = .ok (.aload_n 0, 1) := dk_42 (dk_at dksX0_belief_2 15 rfl rfl)
theorem dX0_belief_62 : decode cX0_belief 62 = .ok (.getfield 43, 3) := dk_180 0 43 (dk_at dksX0_belief_2 16 rfl rfl)
theorem dX0_belief_65 : decode cX0_belief 65 = .ok (.getfield 165, 3) := dk_180 0 165 (dk_at dksX0_belief_2 19 rfl rfl)
theorem dX0_belief_68 : decode cX0_belief 68 = .ok (.iload 8, 2) := dk_21 8 (dk_at dksX0_belief_2 22 rfl rfl)
theorem dX0_belief_70 : decode cX0_belief 70 = .ok (.iaload, 1) := dk_46 (dk_at dksX0_belief_3 0 rfl rfl)
theorem dX0_belief_71 : decode cX0_belief 71 = .ok (.isub, 1) := dk_100 (dk_at dksX0_belief_3 1 rfl rfl)
theorem dX0_belief_72 : decode cX0_belief 72 = .ok (.i2l, 1) := dk_133 (dk_at dksX0_belief_3 2 rfl rfl)
theorem dX0_belief_73 : decode cX0_belief 73 = .ok (.lmul, 1) := dk_105 (dk_at dksX0_belief_3 3 rfl rfl)
theorem dX0_belief_74 : decode cX0_belief 74 = .ok (.lstore 4, 2) := dk_55 4 (dk_at dksX0_belief_3 4 rfl rfl)
theorem dX0_belief_76 : decode cX0_belief 76 = .ok (.lload 6, 2) := dk_22 6 (dk_at dksX0_belief_3 6 rfl rfl)
theorem dX0_belief_78 : decode cX0_belief 78 = .ok (.iload_n 3, 1) := dk_29 (dk_at dksX0_belief_3 8 rfl rfl)
theorem dX0_belief_79 : decode cX0_belief 79 = .ok (.iload 8, 2) := dk_21 8 (dk_at dksX0_belief_3 9 rfl rfl)
theorem dX0_belief_81 : decode cX0_belief 81 = .ok (.invokestatic 245, 3) := dk_184 0 245 (dk_at dksX0_belief_3 11 rfl rfl)
theorem dX0_belief_84 : decode cX0_belief 84 = .ok (.ifCond .eq 17, 3) := dk_153 0 17 (dk_at dksX0_belief_3 14 rfl rfl)
theorem dX0_belief_87 : decode cX0_belief 87 = .ok (.aload_n 0, 1) := dk_42 (dk_at dksX0_belief_3 17 rfl rfl)
theorem dX0_belief_88 : decode cX0_belief 88 = .ok (.getfield 43, 3) := dk_180 0 43 (dk_at dksX0_belief_3 18 rfl rfl)
theorem dX0_belief_91 : decode cX0_belief 91 = .ok (.getfield 168, 3) := dk_180 0 168 (dk_at dksX0_belief_3 21 rfl rfl)
theorem dX0_belief_94 : decode cX0_belief 94 = .ok (.iload 8, 2) := dk_21 8 (dk_at dksX0_belief_4 0 rfl rfl)
theorem dX0_belief_96 : decode cX0_belief 96 = .ok (.iaload, 1) := dk_46 (dk_at dksX0_belief_4 2 rfl rfl)
theorem dX0_belief_97 : decode cX0_belief 97 = .ok (.i2l, 1) := dk_133 (dk_at dksX0_belief_4 3 rfl rfl)
theorem dX0_belief_98 : decode cX0_belief 98 = .ok (.goto 17, 3) := dk_167 0 17 (dk_at dksX0_belief_4 4 rfl rfl)
theorem dX0_belief_101 : decode cX0_belief 101 = .ok (.bipush 10, 2) := dk_16 10 (dk_at dksX0_belief_4 7 rfl rfl)
theorem dX0_belief_103 : decode cX0_belief 103 = .ok (.aload_n 0, 1) := dk_42 (dk_at dksX0_belief_4 9 rfl rfl)
theorem dX0_belief_104 : decode cX0_belief 104 = .ok (.getfield 43, 3) := dk_180 0 43 (dk_at dksX0_belief_4 10 rfl rfl)
theorem dX0_belief_107 : decode cX0_belief 107 = .ok (.getfield 168, 3) := dk_180 0 168 (dk_at dksX0_belief_4 13 rfl rfl)
theorem dX0_belief_110 : decode cX0_belief 110 = .ok (.iload 8, 2) := dk_21 8 (dk_at dksX0_belief_4 16 rfl rfl)
theorem dX0_belief_112 : decode cX0_belief 112 = .ok (.iaload, 1) := dk_46 (dk_at dksX0_belief_4 18 rfl rfl)
theorem dX0_belief_113 : decode cX0_belief 113 = .ok (.isub, 1) := dk_100 (dk_at dksX0_belief_4 19 rfl rfl)
theorem dX0_belief_114 : decode cX0_belief 114 = .ok (.i2l, 1) := dk_133 (dk_at dksX0_belief_4 20 rfl rfl)
theorem dX0_belief_115 : decode cX0_belief 115 = .ok (.lmul, 1) := dk_105 (dk_at dksX0_belief_4 21 rfl rfl)
theorem dX0_belief_116 : decode cX0_belief 116 = .ok (.lstore 6, 2) := dk_55 6 (dk_at dksX0_belief_4 22 rfl rfl)
theorem dX0_belief_118 : decode cX0_belief 118 = .ok (.iinc 8 1, 3) := dk_132 8 1 (dk_at dksX0_belief_5 0 rfl rfl)
theorem dX0_belief_121 : decode cX0_belief 121 = .ok (.goto (-94), 3) := dk_167 255 162 (dk_at dksX0_belief_5 3 rfl rfl)
theorem dX0_belief_124 : decode cX0_belief 124 = .ok (.aload_n 0, 1) := dk_42 (dk_at dksX0_belief_5 6 rfl rfl)
theorem dX0_belief_125 : decode cX0_belief 125 = .ok (.getfield 43, 3) := dk_180 0 43 (dk_at dksX0_belief_5 7 rfl rfl)
theorem dX0_belief_128 : decode cX0_belief 128 = .ok (.getfield 183, 3) := dk_180 0 183 (dk_at dksX0_belief_5 10 rfl rfl)
theorem dX0_belief_131 : decode cX0_belief 131 = .ok (.i2l, 1) := dk_133 (dk_at dksX0_belief_5 13 rfl rfl)
theorem dX0_belief_132 : decode cX0_belief 132 = .ok (.ldc2_w 243, 3) := dk_20 0 243 (dk_at dksX0_belief_5 14 rfl rfl)
theorem dX0_belief_135 : decode cX0_belief 135 = .ok (.lmul, 1) := dk_105 (dk_at dksX0_belief_5 17 rfl rfl)
theorem dX0_belief_136 : decode cX0_belief 136 = .ok (.lstore 8, 2) := dk_55 8 (dk_at dksX0_belief_5 18 rfl rfl)
theorem dX0_belief_138 : decode cX0_belief 138 = .ok (.lload 4, 2) := dk_22 4 (dk_at dksX0_belief_5 20 rfl rfl)
theorem dX0_belief_140 : decode cX0_belief 140 = .ok (.lload 6, 2) := dk_22 6 (dk_at dksX0_belief_5 22 rfl rfl)
theorem dX0_belief_142 : decode cX0_belief 142 = .ok (.ladd, 1) := dk_97 (dk_at dksX0_belief_6 0 rfl rfl)
theorem dX0_belief_143 : decode cX0_belief 143 = .ok (.lconst 0, 1) := dk_9 (dk_at dksX0_belief_6 1 rfl rfl)
theorem dX0_belief_144 : decode cX0_belief 144 = .ok (.lcmp, 1) := dk_148 (dk_at dksX0_belief_6 2 rfl rfl)
theorem dX0_belief_145 : decode cX0_belief 145 = .ok (.ifCond .ne 8, 3) := dk_154 0 8 (dk_at dksX0_belief_6 3 rfl rfl)
theorem dX0_belief_148 : decode cX0_belief 148 = .ok (.lload 8, 2) := dk_22 8 (dk_at dksX0_belief_6 6 rfl rfl)
theorem dX0_belief_150 : decode cX0_belief 150 = .ok (.goto 15, 3) := dk_167 0 15 (dk_at dksX0_belief_6 8 rfl rfl)
theorem dX0_belief_153 : decode cX0_belief 153 = .ok (.lload 4, 2) := dk_22 4 (dk_at dksX0_belief_6 11 rfl rfl)
theorem dX0_belief_155 : decode cX0_belief 155 = .ok (.ldc2_w 248, 3) := dk_20 0 248 (dk_at dksX0_belief_6 13 rfl rfl)
theorem dX0_belief_158 : decode cX0_belief 158 = .ok (.lmul, 1) := dk_105 (dk_at dksX0_belief_6 16 rfl rfl)
theorem dX0_belief_159 : decode cX0_belief 159 = .ok (.lload 4, 2) := dk_22 4 (dk_at dksX0_belief_6 17 rfl rfl)
theorem dX0_belief_161 : decode cX0_belief 161 = .ok (.lload 6, 2) := dk_22 6 (dk_at dksX0_belief_6 19 rfl rfl)
theorem dX0_belief_163 : decode cX0_belief 163 = .ok (.ladd, 1) := dk_97 (dk_at dksX0_belief_6 21 rfl rfl)
theorem dX0_belief_164 : decode cX0_belief 164 = .ok (.ldiv, 1) := dk_109 (dk_at dksX0_belief_6 22 rfl rfl)
theorem dX0_belief_165 : decode cX0_belief 165 = .ok (.lstore 10, 2) := dk_55 10 (dk_at dksX0_belief_7 0 rfl rfl)
theorem dX0_belief_167 : decode cX0_belief 167 = .ok (.aload_n 1, 1) := dk_43 (dk_at dksX0_belief_7 2 rfl rfl)
theorem dX0_belief_168 : decode cX0_belief 168 = .ok (.getfield 177, 3) := dk_180 0 177 (dk_at dksX0_belief_7 3 rfl rfl)
theorem dX0_belief_171 : decode cX0_belief 171 = .ok (.aload_n 0, 1) := dk_42 (dk_at dksX0_belief_7 6 rfl rfl)
theorem dX0_belief_172 : decode cX0_belief 172 = .ok (.getfield 43, 3) := dk_180 0 43 (dk_at dksX0_belief_7 7 rfl rfl)
theorem dX0_belief_175 : decode cX0_belief 175 = .ok (.getfield 129, 3) := dk_180 0 129 (dk_at dksX0_belief_7 10 rfl rfl)
theorem dX0_belief_178 : decode cX0_belief 178 = .ok (.iload_n 2, 1) := dk_28 (dk_at dksX0_belief_7 13 rfl rfl)
theorem dX0_belief_179 : decode cX0_belief 179 = .ok (.iaload, 1) := dk_46 (dk_at dksX0_belief_7 14 rfl rfl)
theorem dX0_belief_180 : decode cX0_belief 180 = .ok (.iaload, 1) := dk_46 (dk_at dksX0_belief_7 15 rfl rfl)
theorem dX0_belief_181 : decode cX0_belief 181 = .ok (.istore 12, 2) := dk_54 12 (dk_at dksX0_belief_7 16 rfl rfl)
theorem dX0_belief_183 : decode cX0_belief 183 = .ok (.iload 12, 2) := dk_21 12 (dk_at dksX0_belief_7 18 rfl rfl)
theorem dX0_belief_185 : decode cX0_belief 185 = .ok (.i2l, 1) := dk_133 (dk_at dksX0_belief_7 20 rfl rfl)
theorem dX0_belief_186 : decode cX0_belief 186 = .ok (.lload 10, 2) := dk_22 10 (dk_at dksX0_belief_7 21 rfl rfl)
theorem dX0_belief_188 : decode cX0_belief 188 = .ok (.lmul, 1) := dk_105 (dk_at dksX0_belief_7 23 rfl rfl)
theorem dX0_belief_189 : decode cX0_belief 189 = .ok (.bipush 100, 2) := dk_16 100 (dk_at dksX0_belief_8 0 rfl rfl)
theorem dX0_belief_191 : decode cX0_belief 191 = .ok (.iload 12, 2) := dk_21 12 (dk_at dksX0_belief_8 2 rfl rfl)
theorem dX0_belief_193 : decode cX0_belief 193 = .ok (.isub, 1) := dk_100 (dk_at dksX0_belief_8 4 rfl rfl)
theorem dX0_belief_194 : decode cX0_belief 194 = .ok (.i2l, 1) := dk_133 (dk_at dksX0_belief_8 5 rfl rfl)
theorem dX0_belief_195 : decode cX0_belief 195 = .ok (.lload 8, 2) := dk_22 8 (dk_at dksX0_belief_8 6 rfl rfl)
theorem dX0_belief_197 : decode cX0_belief 197 = .ok (.lmul, 1) := dk_105 (dk_at dksX0_belief_8 8 rfl rfl)
theorem dX0_belief_198 : decode cX0_belief 198 = .ok (.ladd, 1) := dk_97 (dk_at dksX0_belief_8 9 rfl rfl)
theorem dX0_belief_199 : decode cX0_belief 199 = .ok (.ldc2_w 250, 3) := dk_20 0 250 (dk_at dksX0_belief_8 10 rfl rfl)
theorem dX0_belief_202 : decode cX0_belief 202 = .ok (.ldiv, 1) := dk_109 (dk_at dksX0_belief_8 13 rfl rfl)
theorem dX0_belief_203 : decode cX0_belief 203 = .ok (.l2i, 1) := dk_136 (dk_at dksX0_belief_8 14 rfl rfl)
theorem dX0_belief_204 : decode cX0_belief 204 = .ok (.ireturn, 1) := dk_172 (dk_at dksX0_belief_8 15 rfl rfl)
abbrev cX0_sign : ByteArray := prog_1_method_22_code
def yX0_sign : MethodName := ⟨RX0, "sign", "(III)I"⟩
def dkwX0_sign_4 : List UInt8 := [182, 0, 122, 172]
abbrev dktX0_sign_4 : List UInt8 := dkwX0_sign_4 ++ []
def dkwX0_sign_3 : List UInt8 := [42, 180, 0, 43, 180, 0, 171, 58, 4, 25, 4, 27, 46, 54, 5, 25, 4, 27, 29, 79, 42, 21, 5]
abbrev dktX0_sign_3 : List UInt8 := dkwX0_sign_3 ++ dktX0_sign_4
def dkwX0_sign_2 : List UInt8 := [180, 0, 43, 180, 0, 165, 167, 0, 25, 28, 4, 160, 0, 13, 42, 180, 0, 43, 180, 0, 168, 167, 0, 10]
abbrev dktX0_sign_2 : List UInt8 := dkwX0_sign_2 ++ dktX0_sign_3
def dkwX0_sign_1 : List UInt8 := [16, 99, 167, 0, 5, 16, 10, 184, 0, 26, 154, 0, 9, 42, 2, 182, 0, 115, 172, 28, 154, 0, 13, 42]
abbrev dktX0_sign_1 : List UInt8 := dkwX0_sign_1 ++ dktX0_sign_2
def dkwX0_sign_0 : List UInt8 := [27, 184, 0, 162, 153, 0, 32, 28, 3, 5, 184, 0, 26, 153, 0, 23, 29, 3, 28, 5, 160, 0, 8]
abbrev dktX0_sign_0 : List UInt8 := dkwX0_sign_0 ++ dktX0_sign_1
theorem dksX0_sign_0 : cX0_sign.data.toList.drop 0 = dktX0_sign_0 := by decide +kernel
theorem dksX0_sign_1 : cX0_sign.data.toList.drop 23 = dktX0_sign_1 := dk_seg dksX0_sign_0 23 rfl rfl
theorem dksX0_sign_2 : cX0_sign.data.toList.drop 47 = dktX0_sign_2 := dk_seg dksX0_sign_1 24 rfl rfl
theorem dksX0_sign_3 : cX0_sign.data.toList.drop 71 = dktX0_sign_3 := dk_seg dksX0_sign_2 24 rfl rfl
theorem dksX0_sign_4 : cX0_sign.data.toList.drop 94 = dktX0_sign_4 := dk_seg dksX0_sign_3 23 rfl rfl
theorem dX0_sign_0 : decode cX0_sign 0 = .ok (.iload_n 1, 1) := dk_27 (dk_at dksX0_sign_0 0 rfl rfl)
theorem dX0_sign_1 : decode cX0_sign 1 = .ok (.invokestatic 162, 3) := dk_184 0 162 (dk_at dksX0_sign_0 1 rfl rfl)
theorem dX0_sign_4 : decode cX0_sign 4 = .ok (.ifCond .eq 32, 3) := dk_153 0 32 (dk_at dksX0_sign_0 4 rfl rfl)
theorem dX0_sign_7 : decode cX0_sign 7 = .ok (.iload_n 2, 1) := dk_28 (dk_at dksX0_sign_0 7 rfl rfl)
theorem dX0_sign_8 : decode cX0_sign 8 = .ok (.iconst 0, 1) := dk_3 (dk_at dksX0_sign_0 8 rfl rfl)
theorem dX0_sign_9 : decode cX0_sign 9 = .ok (.iconst 2, 1) := dk_5 (dk_at dksX0_sign_0 9 rfl rfl)
theorem dX0_sign_10 : decode cX0_sign 10 = .ok (.invokestatic 26, 3) := dk_184 0 26 (dk_at dksX0_sign_0 10 rfl rfl)
theorem dX0_sign_13 : decode cX0_sign 13 = .ok (.ifCond .eq 23, 3) := dk_153 0 23 (dk_at dksX0_sign_0 13 rfl rfl)
theorem dX0_sign_16 : decode cX0_sign 16 = .ok (.iload_n 3, 1) := dk_29 (dk_at dksX0_sign_0 16 rfl rfl)
theorem dX0_sign_17 : decode cX0_sign 17 = .ok (.iconst 0, 1) := dk_3 (dk_at dksX0_sign_0 17 rfl rfl)
theorem dX0_sign_18 : decode cX0_sign 18 = .ok (.iload_n 2, 1) := dk_28 (dk_at dksX0_sign_0 18 rfl rfl)
theorem dX0_sign_19 : decode cX0_sign 19 = .ok (.iconst 2, 1) := dk_5 (dk_at dksX0_sign_0 19 rfl rfl)
theorem dX0_sign_20 : decode cX0_sign 20 = .ok (.if_icmp .ne 8, 3) := dk_160 0 8 (dk_at dksX0_sign_0 20 rfl rfl)
theorem dX0_sign_23 : decode cX0_sign 23 = .ok (.bipush 99, 2) := dk_16 99 (dk_at dksX0_sign_1 0 rfl rfl)
theorem dX0_sign_25 : decode cX0_sign 25 = .ok (.goto 5, 3) := dk_167 0 5 (dk_at dksX0_sign_1 2 rfl rfl)
theorem dX0_sign_28 : decode cX0_sign 28 = .ok (.bipush 10, 2) := dk_16 10 (dk_at dksX0_sign_1 5 rfl rfl)
theorem dX0_sign_30 : decode cX0_sign 30 = .ok (.invokestatic 26, 3) := dk_184 0 26 (dk_at dksX0_sign_1 7 rfl rfl)
theorem dX0_sign_33 : decode cX0_sign 33 = .ok (.ifCond .ne 9, 3) := dk_154 0 9 (dk_at dksX0_sign_1 10 rfl rfl)
theorem dX0_sign_36 : decode cX0_sign 36 = .ok (.aload_n 0, 1) := dk_42 (dk_at dksX0_sign_1 13 rfl rfl)
theorem dX0_sign_37 : decode cX0_sign 37 = .ok (.iconst (-1), 1) := dk_2 (dk_at dksX0_sign_1 14 rfl rfl)
theorem dX0_sign_38 : decode cX0_sign 38 = .ok (.invokevirtual 115, 3) := dk_182 0 115 (dk_at dksX0_sign_1 15 rfl rfl)
theorem dX0_sign_41 : decode cX0_sign 41 = .ok (.ireturn, 1) := dk_172 (dk_at dksX0_sign_1 18 rfl rfl)
theorem dX0_sign_42 : decode cX0_sign 42 = .ok (.iload_n 2, 1) := dk_28 (dk_at dksX0_sign_1 19 rfl rfl)
theorem dX0_sign_43 : decode cX0_sign 43 = .ok (.ifCond .ne 13, 3) := dk_154 0 13 (dk_at dksX0_sign_1 20 rfl rfl)
theorem dX0_sign_46 : decode cX0_sign 46 = .ok (.aload_n 0, 1) := dk_42 (dk_at dksX0_sign_1 23 rfl rfl)
theorem dX0_sign_47 : decode cX0_sign 47 = .ok (.getfield 43, 3) := dk_180 0 43 (dk_at dksX0_sign_2 0 rfl rfl)
theorem dX0_sign_50 : decode cX0_sign 50 = .ok (.getfield 165, 3) := dk_180 0 165 (dk_at dksX0_sign_2 3 rfl rfl)
theorem dX0_sign_53 : decode cX0_sign 53 = .ok (.goto 25, 3) := dk_167 0 25 (dk_at dksX0_sign_2 6 rfl rfl)
theorem dX0_sign_56 : decode cX0_sign 56 = .ok (.iload_n 2, 1) := dk_28 (dk_at dksX0_sign_2 9 rfl rfl)
theorem dX0_sign_57 : decode cX0_sign 57 = .ok (.iconst 1, 1) := dk_4 (dk_at dksX0_sign_2 10 rfl rfl)
theorem dX0_sign_58 : decode cX0_sign 58 = .ok (.if_icmp .ne 13, 3) := dk_160 0 13 (dk_at dksX0_sign_2 11 rfl rfl)
theorem dX0_sign_61 : decode cX0_sign 61 = .ok (.aload_n 0, 1) := dk_42 (dk_at dksX0_sign_2 14 rfl rfl)
theorem dX0_sign_62 : decode cX0_sign 62 = .ok (.getfield 43, 3) := dk_180 0 43 (dk_at dksX0_sign_2 15 rfl rfl)
theorem dX0_sign_65 : decode cX0_sign 65 = .ok (.getfield 168, 3) := dk_180 0 168 (dk_at dksX0_sign_2 18 rfl rfl)
theorem dX0_sign_68 : decode cX0_sign 68 = .ok (.goto 10, 3) := dk_167 0 10 (dk_at dksX0_sign_2 21 rfl rfl)
theorem dX0_sign_71 : decode cX0_sign 71 = .ok (.aload_n 0, 1) := dk_42 (dk_at dksX0_sign_3 0 rfl rfl)
theorem dX0_sign_72 : decode cX0_sign 72 = .ok (.getfield 43, 3) := dk_180 0 43 (dk_at dksX0_sign_3 1 rfl rfl)
theorem dX0_sign_75 : decode cX0_sign 75 = .ok (.getfield 171, 3) := dk_180 0 171 (dk_at dksX0_sign_3 4 rfl rfl)
theorem dX0_sign_78 : decode cX0_sign 78 = .ok (.astore 4, 2) := dk_58 4 (dk_at dksX0_sign_3 7 rfl rfl)
theorem dX0_sign_80 : decode cX0_sign 80 = .ok (.aload 4, 2) := dk_25 4 (dk_at dksX0_sign_3 9 rfl rfl)
theorem dX0_sign_82 : decode cX0_sign 82 = .ok (.iload_n 1, 1) := dk_27 (dk_at dksX0_sign_3 11 rfl rfl)
theorem dX0_sign_83 : decode cX0_sign 83 = .ok (.iaload, 1) := dk_46 (dk_at dksX0_sign_3 12 rfl rfl)
theorem dX0_sign_84 : decode cX0_sign 84 = .ok (.istore 5, 2) := dk_54 5 (dk_at dksX0_sign_3 13 rfl rfl)
theorem dX0_sign_86 : decode cX0_sign 86 = .ok (.aload 4, 2) := dk_25 4 (dk_at dksX0_sign_3 15 rfl rfl)
theorem dX0_sign_88 : decode cX0_sign 88 = .ok (.iload_n 1, 1) := dk_27 (dk_at dksX0_sign_3 17 rfl rfl)
theorem dX0_sign_89 : decode cX0_sign 89 = .ok (.iload_n 3, 1) := dk_29 (dk_at dksX0_sign_3 18 rfl rfl)
theorem dX0_sign_90 : decode cX0_sign 90 = .ok (.iastore, 1) := dk_79 (dk_at dksX0_sign_3 19 rfl rfl)
theorem dX0_sign_91 : decode cX0_sign 91 = .ok (.aload_n 0, 1) := dk_42 (dk_at dksX0_sign_3 20 rfl rfl)
theorem dX0_sign_92 : decode cX0_sign 92 = .ok (.iload 5, 2) := dk_21 5 (dk_at dksX0_sign_3 21 rfl rfl)
theorem dX0_sign_94 : decode cX0_sign 94 = .ok (.invokevirtual 122, 3) := dk_182 0 122 (dk_at dksX0_sign_4 0 rfl rfl)
theorem dX0_sign_97 : decode cX0_sign 97 = .ok (.ireturn, 1) := dk_172 (dk_at dksX0_sign_4 3 rfl rfl)
abbrev cX0_isSign : ByteArray := prog_1_method_7_code
def yX0_isSign : MethodName := ⟨RX0, "isSign", "(I)Z"⟩
def dkwX0_isSign_0 : List UInt8 := [26, 3, 8, 184, 0, 26, 172]
abbrev dktX0_isSign_0 : List UInt8 := dkwX0_isSign_0 ++ []
theorem dksX0_isSign_0 : cX0_isSign.data.toList.drop 0 = dktX0_isSign_0 := by decide +kernel
theorem dX0_isSign_0 : decode cX0_isSign 0 = .ok (.iload_n 0, 1) := dk_26 (dk_at dksX0_isSign_0 0 rfl rfl)
theorem dX0_isSign_1 : decode cX0_isSign 1 = .ok (.iconst 0, 1) := dk_3 (dk_at dksX0_isSign_0 1 rfl rfl)
theorem dX0_isSign_2 : decode cX0_isSign 2 = .ok (.iconst 5, 1) := dk_8 (dk_at dksX0_isSign_0 2 rfl rfl)
theorem dX0_isSign_3 : decode cX0_isSign 3 = .ok (.invokestatic 26, 3) := dk_184 0 26 (dk_at dksX0_isSign_0 3 rfl rfl)
theorem dX0_isSign_6 : decode cX0_isSign 6 = .ok (.ireturn, 1) := dk_172 (dk_at dksX0_isSign_0 6 rfl rfl)
abbrev cX0_road : ByteArray := prog_1_method_23_code
def yX0_road : MethodName := ⟨RX0, "road", "(III)I"⟩
def dkwX0_road_4 : List UInt8 := [182, 0, 109, 172]
abbrev dktX0_road_4 : List UInt8 := dkwX0_road_4 ++ []
def dkwX0_road_3 : List UInt8 := [27, 104, 28, 96, 29, 79, 42, 180, 0, 43, 180, 0, 174, 16, 6, 28, 104, 27, 96, 29, 79, 42, 21, 4]
abbrev dktX0_road_3 : List UInt8 := dkwX0_road_3 ++ dktX0_road_4
def dkwX0_road_2 : List UInt8 := [180, 0, 43, 180, 0, 174, 16, 6, 27, 104, 28, 96, 46, 54, 4, 42, 180, 0, 43, 180, 0, 174, 16, 6]
abbrev dktX0_road_2 : List UInt8 := dkwX0_road_2 ++ dktX0_road_3
def dkwX0_road_1 : List UInt8 := [182, 0, 152, 153, 0, 11, 42, 28, 182, 0, 152, 154, 0, 10, 42, 16, 254, 182, 0, 115, 172, 42]
abbrev dktX0_road_1 : List UInt8 := dkwX0_road_1 ++ dktX0_road_2
def dkwX0_road_0 : List UInt8 := [27, 28, 159, 0, 13, 29, 3, 16, 99, 184, 0, 26, 154, 0, 9, 42, 2, 182, 0, 115, 172, 42, 27]
abbrev dktX0_road_0 : List UInt8 := dkwX0_road_0 ++ dktX0_road_1
theorem dksX0_road_0 : cX0_road.data.toList.drop 0 = dktX0_road_0 := by decide +kernel
theorem dksX0_road_1 : cX0_road.data.toList.drop 23 = dktX0_road_1 := dk_seg dksX0_road_0 23 rfl rfl
theorem dksX0_road_2 : cX0_road.data.toList.drop 45 = dktX0_road_2 := dk_seg dksX0_road_1 22 rfl rfl
theorem dksX0_road_3 : cX0_road.data.toList.drop 69 = dktX0_road_3 := dk_seg dksX0_road_2 24 rfl rfl
theorem dksX0_road_4 : cX0_road.data.toList.drop 93 = dktX0_road_4 := dk_seg dksX0_road_3 24 rfl rfl
theorem dX0_road_0 : decode cX0_road 0 = .ok (.iload_n 1, 1) := dk_27 (dk_at dksX0_road_0 0 rfl rfl)
theorem dX0_road_1 : decode cX0_road 1 = .ok (.iload_n 2, 1) := dk_28 (dk_at dksX0_road_0 1 rfl rfl)
theorem dX0_road_2 : decode cX0_road 2 = .ok (.if_icmp .eq 13, 3) := dk_159 0 13 (dk_at dksX0_road_0 2 rfl rfl)
theorem dX0_road_5 : decode cX0_road 5 = .ok (.iload_n 3, 1) := dk_29 (dk_at dksX0_road_0 5 rfl rfl)
theorem dX0_road_6 : decode cX0_road 6 = .ok (.iconst 0, 1) := dk_3 (dk_at dksX0_road_0 6 rfl rfl)
theorem dX0_road_7 : decode cX0_road 7 = .ok (.bipush 99, 2) := dk_16 99 (dk_at dksX0_road_0 7 rfl rfl)
theorem dX0_road_9 : decode cX0_road 9 = .ok (.invokestatic 26, 3) := dk_184 0 26 (dk_at dksX0_road_0 9 rfl rfl)
theorem dX0_road_12 : decode cX0_road 12 = .ok (.ifCond .ne 9, 3) := dk_154 0 9 (dk_at dksX0_road_0 12 rfl rfl)
theorem dX0_road_15 : decode cX0_road 15 = .ok (.aload_n 0, 1) := dk_42 (dk_at dksX0_road_0 15 rfl rfl)
theorem dX0_road_16 : decode cX0_road 16 = .ok (.iconst (-1), 1) := dk_2 (dk_at dksX0_road_0 16 rfl rfl)
theorem dX0_road_17 : decode cX0_road 17 = .ok (.invokevirtual 115, 3) := dk_182 0 115 (dk_at dksX0_road_0 17 rfl rfl)
theorem dX0_road_20 : decode cX0_road 20 = .ok (.ireturn, 1) := dk_172 (dk_at dksX0_road_0 20 rfl rfl)
theorem dX0_road_21 : decode cX0_road 21 = .ok (.aload_n 0, 1) := dk_42 (dk_at dksX0_road_0 21 rfl rfl)
theorem dX0_road_22 : decode cX0_road 22 = .ok (.iload_n 1, 1) := dk_27 (dk_at dksX0_road_0 22 rfl rfl)
theorem dX0_road_23 : decode cX0_road 23 = .ok (.invokevirtual 152, 3) := dk_182 0 152 (dk_at dksX0_road_1 0 rfl rfl)
theorem dX0_road_26 : decode cX0_road 26 = .ok (.ifCond .eq 11, 3) := dk_153 0 11 (dk_at dksX0_road_1 3 rfl rfl)
theorem dX0_road_29 : decode cX0_road 29 = .ok (.aload_n 0, 1) := dk_42 (dk_at dksX0_road_1 6 rfl rfl)
theorem dX0_road_30 : decode cX0_road 30 = .ok (.iload_n 2, 1) := dk_28 (dk_at dksX0_road_1 7 rfl rfl)
theorem dX0_road_31 : decode cX0_road 31 = .ok (.invokevirtual 152, 3) := dk_182 0 152 (dk_at dksX0_road_1 8 rfl rfl)
theorem dX0_road_34 : decode cX0_road 34 = .ok (.ifCond .ne 10, 3) := dk_154 0 10 (dk_at dksX0_road_1 11 rfl rfl)
theorem dX0_road_37 : decode cX0_road 37 = .ok (.aload_n 0, 1) := dk_42 (dk_at dksX0_road_1 14 rfl rfl)
theorem dX0_road_38 : decode cX0_road 38 = .ok (.bipush (-2), 2) := dk_16 254 (dk_at dksX0_road_1 15 rfl rfl)
theorem dX0_road_40 : decode cX0_road 40 = .ok (.invokevirtual 115, 3) := dk_182 0 115 (dk_at dksX0_road_1 17 rfl rfl)
theorem dX0_road_43 : decode cX0_road 43 = .ok (.ireturn, 1) := dk_172 (dk_at dksX0_road_1 20 rfl rfl)
theorem dX0_road_44 : decode cX0_road 44 = .ok (.aload_n 0, 1) := dk_42 (dk_at dksX0_road_1 21 rfl rfl)
theorem dX0_road_45 : decode cX0_road 45 = .ok (.getfield 43, 3) := dk_180 0 43 (dk_at dksX0_road_2 0 rfl rfl)
theorem dX0_road_48 : decode cX0_road 48 = .ok (.getfield 174, 3) := dk_180 0 174 (dk_at dksX0_road_2 3 rfl rfl)
theorem dX0_road_51 : decode cX0_road 51 = .ok (.bipush 6, 2) := dk_16 6 (dk_at dksX0_road_2 6 rfl rfl)
theorem dX0_road_53 : decode cX0_road 53 = .ok (.iload_n 1, 1) := dk_27 (dk_at dksX0_road_2 8 rfl rfl)
theorem dX0_road_54 : decode cX0_road 54 = .ok (.imul, 1) := dk_104 (dk_at dksX0_road_2 9 rfl rfl)
theorem dX0_road_55 : decode cX0_road 55 = .ok (.iload_n 2, 1) := dk_28 (dk_at dksX0_road_2 10 rfl rfl)
theorem dX0_road_56 : decode cX0_road 56 = .ok (.iadd, 1) := dk_96 (dk_at dksX0_road_2 11 rfl rfl)
theorem dX0_road_57 : decode cX0_road 57 = .ok (.iaload, 1) := dk_46 (dk_at dksX0_road_2 12 rfl rfl)
theorem dX0_road_58 : decode cX0_road 58 = .ok (.istore 4, 2) := dk_54 4 (dk_at dksX0_road_2 13 rfl rfl)
theorem dX0_road_60 : decode cX0_road 60 = .ok (.aload_n 0, 1) := dk_42 (dk_at dksX0_road_2 15 rfl rfl)
theorem dX0_road_61 : decode cX0_road 61 = .ok (.getfield 43, 3) := dk_180 0 43 (dk_at dksX0_road_2 16 rfl rfl)
theorem dX0_road_64 : decode cX0_road 64 = .ok (.getfield 174, 3) := dk_180 0 174 (dk_at dksX0_road_2 19 rfl rfl)
theorem dX0_road_67 : decode cX0_road 67 = .ok (.bipush 6, 2) := dk_16 6 (dk_at dksX0_road_2 22 rfl rfl)
theorem dX0_road_69 : decode cX0_road 69 = .ok (.iload_n 1, 1) := dk_27 (dk_at dksX0_road_3 0 rfl rfl)
theorem dX0_road_70 : decode cX0_road 70 = .ok (.imul, 1) := dk_104 (dk_at dksX0_road_3 1 rfl rfl)
theorem dX0_road_71 : decode cX0_road 71 = .ok (.iload_n 2, 1) := dk_28 (dk_at dksX0_road_3 2 rfl rfl)
theorem dX0_road_72 : decode cX0_road 72 = .ok (.iadd, 1) := dk_96 (dk_at dksX0_road_3 3 rfl rfl)
theorem dX0_road_73 : decode cX0_road 73 = .ok (.iload_n 3, 1) := dk_29 (dk_at dksX0_road_3 4 rfl rfl)
theorem dX0_road_74 : decode cX0_road 74 = .ok (.iastore, 1) := dk_79 (dk_at dksX0_road_3 5 rfl rfl)
theorem dX0_road_75 : decode cX0_road 75 = .ok (.aload_n 0, 1) := dk_42 (dk_at dksX0_road_3 6 rfl rfl)
theorem dX0_road_76 : decode cX0_road 76 = .ok (.getfield 43, 3) := dk_180 0 43 (dk_at dksX0_road_3 7 rfl rfl)
theorem dX0_road_79 : decode cX0_road 79 = .ok (.getfield 174, 3) := dk_180 0 174 (dk_at dksX0_road_3 10 rfl rfl)
theorem dX0_road_82 : decode cX0_road 82 = .ok (.bipush 6, 2) := dk_16 6 (dk_at dksX0_road_3 13 rfl rfl)
theorem dX0_road_84 : decode cX0_road 84 = .ok (.iload_n 2, 1) := dk_28 (dk_at dksX0_road_3 15 rfl rfl)
theorem dX0_road_85 : decode cX0_road 85 = .ok (.imul, 1) := dk_104 (dk_at dksX0_road_3 16 rfl rfl)
theorem dX0_road_86 : decode cX0_road 86 = .ok (.iload_n 1, 1) := dk_27 (dk_at dksX0_road_3 17 rfl rfl)
theorem dX0_road_87 : decode cX0_road 87 = .ok (.iadd, 1) := dk_96 (dk_at dksX0_road_3 18 rfl rfl)
theorem dX0_road_88 : decode cX0_road 88 = .ok (.iload_n 3, 1) := dk_29 (dk_at dksX0_road_3 19 rfl rfl)
theorem dX0_road_89 : decode cX0_road 89 = .ok (.iastore, 1) := dk_79 (dk_at dksX0_road_3 20 rfl rfl)
theorem dX0_road_90 : decode cX0_road 90 = .ok (.aload_n 0, 1) := dk_42 (dk_at dksX0_road_3 21 rfl rfl)
theorem dX0_road_91 : decode cX0_road 91 = .ok (.iload 4, 2) := dk_21 4 (dk_at dksX0_road_3 22 rfl rfl)
theorem dX0_road_93 : decode cX0_road 93 = .ok (.invokevirtual 109, 3) := dk_182 0 109 (dk_at dksX0_road_4 0 rfl rfl)
theorem dX0_road_96 : decode cX0_road 96 = .ok (.ireturn, 1) := dk_172 (dk_at dksX0_road_4 3 rfl rfl)
abbrev cX0_fame : ByteArray := prog_1_method_24_code
def yX0_fame : MethodName := ⟨RX0, "fame", "(II)I"⟩
def dkwX0_fame_2 : List UInt8 := [172]
abbrev dktX0_fame_2 : List UInt8 := dkwX0_fame_2 ++ []
def dkwX0_fame_1 : List UInt8 := [182, 0, 132, 180, 0, 177, 27, 46, 62, 42, 182, 0, 132, 180, 0, 177, 27, 28, 79, 42, 29, 182, 0, 122]
abbrev dktX0_fame_1 : List UInt8 := dkwX0_fame_1 ++ dktX0_fame_2
def dkwX0_fame_0 : List UInt8 := [27, 184, 0, 125, 153, 0, 13, 28, 3, 16, 100, 184, 0, 26, 154, 0, 9, 42, 2, 182, 0, 115, 172, 42]
abbrev dktX0_fame_0 : List UInt8 := dkwX0_fame_0 ++ dktX0_fame_1
theorem dksX0_fame_0 : cX0_fame.data.toList.drop 0 = dktX0_fame_0 := by decide +kernel
theorem dksX0_fame_1 : cX0_fame.data.toList.drop 24 = dktX0_fame_1 := dk_seg dksX0_fame_0 24 rfl rfl
theorem dksX0_fame_2 : cX0_fame.data.toList.drop 48 = dktX0_fame_2 := dk_seg dksX0_fame_1 24 rfl rfl
theorem dX0_fame_0 : decode cX0_fame 0 = .ok (.iload_n 1, 1) := dk_27 (dk_at dksX0_fame_0 0 rfl rfl)
theorem dX0_fame_1 : decode cX0_fame 1 = .ok (.invokestatic 125, 3) := dk_184 0 125 (dk_at dksX0_fame_0 1 rfl rfl)
theorem dX0_fame_4 : decode cX0_fame 4 = .ok (.ifCond .eq 13, 3) := dk_153 0 13 (dk_at dksX0_fame_0 4 rfl rfl)
theorem dX0_fame_7 : decode cX0_fame 7 = .ok (.iload_n 2, 1) := dk_28 (dk_at dksX0_fame_0 7 rfl rfl)
theorem dX0_fame_8 : decode cX0_fame 8 = .ok (.iconst 0, 1) := dk_3 (dk_at dksX0_fame_0 8 rfl rfl)
theorem dX0_fame_9 : decode cX0_fame 9 = .ok (.bipush 100, 2) := dk_16 100 (dk_at dksX0_fame_0 9 rfl rfl)
theorem dX0_fame_11 : decode cX0_fame 11 = .ok (.invokestatic 26, 3) := dk_184 0 26 (dk_at dksX0_fame_0 11 rfl rfl)
theorem dX0_fame_14 : decode cX0_fame 14 = .ok (.ifCond .ne 9, 3) := dk_154 0 9 (dk_at dksX0_fame_0 14 rfl rfl)
theorem dX0_fame_17 : decode cX0_fame 17 = .ok (.aload_n 0, 1) := dk_42 (dk_at dksX0_fame_0 17 rfl rfl)
theorem dX0_fame_18 : decode cX0_fame 18 = .ok (.iconst (-1), 1) := dk_2 (dk_at dksX0_fame_0 18 rfl rfl)
theorem dX0_fame_19 : decode cX0_fame 19 = .ok (.invokevirtual 115, 3) := dk_182 0 115 (dk_at dksX0_fame_0 19 rfl rfl)
theorem dX0_fame_22 : decode cX0_fame 22 = .ok (.ireturn, 1) := dk_172 (dk_at dksX0_fame_0 22 rfl rfl)
theorem dX0_fame_23 : decode cX0_fame 23 = .ok (.aload_n 0, 1) := dk_42 (dk_at dksX0_fame_0 23 rfl rfl)
theorem dX0_fame_24 : decode cX0_fame 24 = .ok (.invokevirtual 132, 3) := dk_182 0 132 (dk_at dksX0_fame_1 0 rfl rfl)
theorem dX0_fame_27 : decode cX0_fame 27 = .ok (.getfield 177, 3) := dk_180 0 177 (dk_at dksX0_fame_1 3 rfl rfl)
theorem dX0_fame_30 : decode cX0_fame 30 = .ok (.iload_n 1, 1) := dk_27 (dk_at dksX0_fame_1 6 rfl rfl)
theorem dX0_fame_31 : decode cX0_fame 31 = .ok (.iaload, 1) := dk_46 (dk_at dksX0_fame_1 7 rfl rfl)
theorem dX0_fame_32 : decode cX0_fame 32 = .ok (.istore_n 3, 1) := dk_62 (dk_at dksX0_fame_1 8 rfl rfl)
theorem dX0_fame_33 : decode cX0_fame 33 = .ok (.aload_n 0, 1) := dk_42 (dk_at dksX0_fame_1 9 rfl rfl)
theorem dX0_fame_34 : decode cX0_fame 34 = .ok (.invokevirtual 132, 3) := dk_182 0 132 (dk_at dksX0_fame_1 10 rfl rfl)
theorem dX0_fame_37 : decode cX0_fame 37 = .ok (.getfield 177, 3) := dk_180 0 177 (dk_at dksX0_fame_1 13 rfl rfl)
theorem dX0_fame_40 : decode cX0_fame 40 = .ok (.iload_n 1, 1) := dk_27 (dk_at dksX0_fame_1 16 rfl rfl)
theorem dX0_fame_41 : decode cX0_fame 41 = .ok (.iload_n 2, 1) := dk_28 (dk_at dksX0_fame_1 17 rfl rfl)
theorem dX0_fame_42 : decode cX0_fame 42 = .ok (.iastore, 1) := dk_79 (dk_at dksX0_fame_1 18 rfl rfl)
theorem dX0_fame_43 : decode cX0_fame 43 = .ok (.aload_n 0, 1) := dk_42 (dk_at dksX0_fame_1 19 rfl rfl)
theorem dX0_fame_44 : decode cX0_fame 44 = .ok (.iload_n 3, 1) := dk_29 (dk_at dksX0_fame_1 20 rfl rfl)
theorem dX0_fame_45 : decode cX0_fame 45 = .ok (.invokevirtual 122, 3) := dk_182 0 122 (dk_at dksX0_fame_1 21 rfl rfl)
theorem dX0_fame_48 : decode cX0_fame 48 = .ok (.ireturn, 1) := dk_172 (dk_at dksX0_fame_2 0 rfl rfl)
abbrev cX0_terms : ByteArray := prog_1_method_25_code
def yX0_terms : MethodName := ⟨RX0, "terms", "(II)I"⟩
def dkwX0_terms_5 : List UInt8 := [180, 0, 43, 28, 181, 0, 186, 42, 29, 182, 0, 122, 172]
abbrev dktX0_terms_5 : List UInt8 := dkwX0_terms_5 ++ []
def dkwX0_terms_4 : List UInt8 := [181, 0, 180, 167, 0, 27, 27, 4, 160, 0, 14, 42, 180, 0, 43, 28, 181, 0, 183, 167, 0, 11, 42]
abbrev dktX0_terms_4 : List UInt8 := dkwX0_terms_4 ++ dktX0_terms_5
def dkwX0_terms_3 : List UInt8 := [180, 0, 183, 167, 0, 10, 42, 180, 0, 43, 180, 0, 186, 62, 27, 154, 0, 14, 42, 182, 0, 132, 28]
abbrev dktX0_terms_3 : List UInt8 := dkwX0_terms_3 ++ dktX0_terms_4
def dkwX0_terms_2 : List UInt8 := [154, 0, 13, 42, 182, 0, 132, 180, 0, 180, 167, 0, 25, 27, 4, 160, 0, 13, 42, 180, 0, 43]
abbrev dktX0_terms_2 : List UInt8 := dkwX0_terms_2 ++ dktX0_terms_3
def dkwX0_terms_1 : List UInt8 := [160, 0, 9, 17, 3, 232, 167, 0, 5, 16, 9, 184, 0, 26, 154, 0, 9, 42, 2, 182, 0, 115, 172, 27]
abbrev dktX0_terms_1 : List UInt8 := dkwX0_terms_1 ++ dktX0_terms_2
def dkwX0_terms_0 : List UInt8 := [27, 3, 5, 184, 0, 26, 153, 0, 34, 28, 3, 27, 154, 0, 9, 17, 3, 231, 167, 0, 16, 27, 4]
abbrev dktX0_terms_0 : List UInt8 := dkwX0_terms_0 ++ dktX0_terms_1
theorem dksX0_terms_0 : cX0_terms.data.toList.drop 0 = dktX0_terms_0 := by decide +kernel
theorem dksX0_terms_1 : cX0_terms.data.toList.drop 23 = dktX0_terms_1 := dk_seg dksX0_terms_0 23 rfl rfl
theorem dksX0_terms_2 : cX0_terms.data.toList.drop 47 = dktX0_terms_2 := dk_seg dksX0_terms_1 24 rfl rfl
theorem dksX0_terms_3 : cX0_terms.data.toList.drop 69 = dktX0_terms_3 := dk_seg dksX0_terms_2 22 rfl rfl
theorem dksX0_terms_4 : cX0_terms.data.toList.drop 92 = dktX0_terms_4 := dk_seg dksX0_terms_3 23 rfl rfl
theorem dksX0_terms_5 : cX0_terms.data.toList.drop 115 = dktX0_terms_5 := dk_seg dksX0_terms_4 23 rfl rfl
theorem dX0_terms_0 : decode cX0_terms 0 = .ok (.iload_n 1, 1) := dk_27 (dk_at dksX0_terms_0 0 rfl rfl)
theorem dX0_terms_1 : decode cX0_terms 1 = .ok (.iconst 0, 1) := dk_3 (dk_at dksX0_terms_0 1 rfl rfl)
theorem dX0_terms_2 : decode cX0_terms 2 = .ok (.iconst 2, 1) := dk_5 (dk_at dksX0_terms_0 2 rfl rfl)
theorem dX0_terms_3 : decode cX0_terms 3 = .ok (.invokestatic 26, 3) := dk_184 0 26 (dk_at dksX0_terms_0 3 rfl rfl)
theorem dX0_terms_6 : decode cX0_terms 6 = .ok (.ifCond .eq 34, 3) := dk_153 0 34 (dk_at dksX0_terms_0 6 rfl rfl)
theorem dX0_terms_9 : decode cX0_terms 9 = .ok (.iload_n 2, 1) := dk_28 (dk_at dksX0_terms_0 9 rfl rfl)
theorem dX0_terms_10 : decode cX0_terms 10 = .ok (.iconst 0, 1) := dk_3 (dk_at dksX0_terms_0 10 rfl rfl)
theorem dX0_terms_11 : decode cX0_terms 11 = .ok (.iload_n 1, 1) := dk_27 (dk_at dksX0_terms_0 11 rfl rfl)
theorem dX0_terms_12 : decode cX0_terms 12 = .ok (.ifCond .ne 9, 3) := dk_154 0 9 (dk_at dksX0_terms_0 12 rfl rfl)
theorem dX0_terms_15 : decode cX0_terms 15 = .ok (.sipush 999, 3) := dk_17 3 231 (dk_at dksX0_terms_0 15 rfl rfl)
theorem dX0_terms_18 : decode cX0_terms 18 = .ok (.goto 16, 3) := dk_167 0 16 (dk_at dksX0_terms_0 18 rfl rfl)
theorem dX0_terms_21 : decode cX0_terms 21 = .ok (.iload_n 1, 1) := dk_27 (dk_at dksX0_terms_0 21 rfl rfl)
theorem dX0_terms_22 : decode cX0_terms 22 = .ok (.iconst 1, 1) := dk_4 (dk_at dksX0_terms_0 22 rfl rfl)
theorem dX0_terms_23 : decode cX0_terms 23 = .ok (.if_icmp .ne 9, 3) := dk_160 0 9 (dk_at dksX0_terms_1 0 rfl rfl)
theorem dX0_terms_26 : decode cX0_terms 26 = .ok (.sipush 1000, 3) := dk_17 3 232 (dk_at dksX0_terms_1 3 rfl rfl)
theorem dX0_terms_29 : decode cX0_terms 29 = .ok (.goto 5, 3) := dk_167 0 5 (dk_at dksX0_terms_1 6 rfl rfl)
theorem dX0_terms_32 : decode cX0_terms 32 = .ok (.bipush 9, 2) := dk_16 9 (dk_at dksX0_terms_1 9 rfl rfl)
theorem dX0_terms_34 : decode cX0_terms 34 = .ok (.invokestatic 26, 3) := dk_184 0 26 (dk_at dksX0_terms_1 11 rfl rfl)
theorem dX0_terms_37 : decode cX0_terms 37 = .ok (.ifCond .ne 9, 3) := dk_154 0 9 (dk_at dksX0_terms_1 14 rfl rfl)
theorem dX0_terms_40 : decode cX0_terms 40 = .ok (.aload_n 0, 1) := dk_42 (dk_at dksX0_terms_1 17 rfl rfl)
theorem dX0_terms_41 : decode cX0_terms 41 = .ok (.iconst (-1), 1) := dk_2 (dk_at dksX0_terms_1 18 rfl rfl)
theorem dX0_terms_42 : decode cX0_terms 42 = .ok (.invokevirtual 115, 3) := dk_182 0 115 (dk_at dksX0_terms_1 19 rfl rfl)
theorem dX0_terms_45 : decode cX0_terms 45 = .ok (.ireturn, 1) := dk_172 (dk_at dksX0_terms_1 22 rfl rfl)
theorem dX0_terms_46 : decode cX0_terms 46 = .ok (.iload_n 1, 1) := dk_27 (dk_at dksX0_terms_1 23 rfl rfl)
theorem dX0_terms_47 : decode cX0_terms 47 = .ok (.ifCond .ne 13, 3) := dk_154 0 13 (dk_at dksX0_terms_2 0 rfl rfl)
theorem dX0_terms_50 : decode cX0_terms 50 = .ok (.aload_n 0, 1) := dk_42 (dk_at dksX0_terms_2 3 rfl rfl)
theorem dX0_terms_51 : decode cX0_terms 51 = .ok (.invokevirtual 132, 3) := dk_182 0 132 (dk_at dksX0_terms_2 4 rfl rfl)
theorem dX0_terms_54 : decode cX0_terms 54 = .ok (.getfield 180, 3) := dk_180 0 180 (dk_at dksX0_terms_2 7 rfl rfl)
theorem dX0_terms_57 : decode cX0_terms 57 = .ok (.goto 25, 3) := dk_167 0 25 (dk_at dksX0_terms_2 10 rfl rfl)
theorem dX0_terms_60 : decode cX0_terms 60 = .ok (.iload_n 1, 1) := dk_27 (dk_at dksX0_terms_2 13 rfl rfl)
theorem dX0_terms_61 : decode cX0_terms 61 = .ok (.iconst 1, 1) := dk_4 (dk_at dksX0_terms_2 14 rfl rfl)
theorem dX0_terms_62 : decode cX0_terms 62 = .ok (.if_icmp .ne 13, 3) := dk_160 0 13 (dk_at dksX0_terms_2 15 rfl rfl)
theorem dX0_terms_65 : decode cX0_terms 65 = .ok (.aload_n 0, 1) := dk_42 (dk_at dksX0_terms_2 18 rfl rfl)
theorem dX0_terms_66 : decode cX0_terms 66 = .ok (.getfield 43, 3) := dk_180 0 43 (dk_at dksX0_terms_2 19 rfl rfl)
theorem dX0_terms_69 : decode cX0_terms 69 = .ok (.getfield 183, 3) := dk_180 0 183 (dk_at dksX0_terms_3 0 rfl rfl)
theorem dX0_terms_72 : decode cX0_terms 72 = .ok (.goto 10, 3) := dk_167 0 10 (dk_at dksX0_terms_3 3 rfl rfl)
theorem dX0_terms_75 : decode cX0_terms 75 = .ok (.aload_n 0, 1) := dk_42 (dk_at dksX0_terms_3 6 rfl rfl)
theorem dX0_terms_76 : decode cX0_terms 76 = .ok (.getfield 43, 3) := dk_180 0 43 (dk_at dksX0_terms_3 7 rfl rfl)
theorem dX0_terms_79 : decode cX0_terms 79 = .ok (.getfield 186, 3) := dk_180 0 186 (dk_at dksX0_terms_3 10 rfl rfl)
theorem dX0_terms_82 : decode cX0_terms 82 = .ok (.istore_n 3, 1) := dk_62 (dk_at dksX0_terms_3 13 rfl rfl)
theorem dX0_terms_83 : decode cX0_terms 83 = .ok (.iload_n 1, 1) := dk_27 (dk_at dksX0_terms_3 14 rfl rfl)
theorem dX0_terms_84 : decode cX0_terms 84 = .ok (.ifCond .ne 14, 3) := dk_154 0 14 (dk_at dksX0_terms_3 15 rfl rfl)
theorem dX0_terms_87 : decode cX0_terms 87 = .ok (.aload_n 0, 1) := dk_42 (dk_at dksX0_terms_3 18 rfl rfl)
theorem dX0_terms_88 : decode cX0_terms 88 = .ok (.invokevirtual 132, 3) := dk_182 0 132 (dk_at dksX0_terms_3 19 rfl rfl)
theorem dX0_terms_91 : decode cX0_terms 91 = .ok (.iload_n 2, 1) := dk_28 (dk_at dksX0_terms_3 22 rfl rfl)
theorem dX0_terms_92 : decode cX0_terms 92 = .ok (.putfield 180, 3) := dk_181 0 180 (dk_at dksX0_terms_4 0 rfl rfl)
theorem dX0_terms_95 : decode cX0_terms 95 = .ok (.goto 27, 3) := dk_167 0 27 (dk_at dksX0_terms_4 3 rfl rfl)
theorem dX0_terms_98 : decode cX0_terms 98 = .ok (.iload_n 1, 1) := dk_27 (dk_at dksX0_terms_4 6 rfl rfl)
theorem dX0_terms_99 : decode cX0_terms 99 = .ok (.iconst 1, 1) := dk_4 (dk_at dksX0_terms_4 7 rfl rfl)
theorem dX0_terms_100 : decode cX0_terms 100 = .ok (.if_icmp .ne 14, 3) := dk_160 0 14 (dk_at dksX0_terms_4 8 rfl rfl)
theorem dX0_terms_103 : decode cX0_terms 103 = .ok (.aload_n 0, 1) := dk_42 (dk_at dksX0_terms_4 11 rfl rfl)
theorem dX0_terms_104 : decode cX0_terms 104 = .ok (.getfield 43, 3) := dk_180 0 43 (dk_at dksX0_terms_4 12 rfl rfl)
theorem dX0_terms_107 : decode cX0_terms 107 = .ok (.iload_n 2, 1) := dk_28 (dk_at dksX0_terms_4 15 rfl rfl)
theorem dX0_terms_108 : decode cX0_terms 108 = .ok (.putfield 183, 3) := dk_181 0 183 (dk_at dksX0_terms_4 16 rfl rfl)
theorem dX0_terms_111 : decode cX0_terms 111 = .ok (.goto 11, 3) := dk_167 0 11 (dk_at dksX0_terms_4 19 rfl rfl)
theorem dX0_terms_114 : decode cX0_terms 114 = .ok (.aload_n 0, 1) := dk_42 (dk_at dksX0_terms_4 22 rfl rfl)
theorem dX0_terms_115 : decode cX0_terms 115 = .ok (.getfield 43, 3) := dk_180 0 43 (dk_at dksX0_terms_5 0 rfl rfl)
theorem dX0_terms_118 : decode cX0_terms 118 = .ok (.iload_n 2, 1) := dk_28 (dk_at dksX0_terms_5 3 rfl rfl)
theorem dX0_terms_119 : decode cX0_terms 119 = .ok (.putfield 186, 3) := dk_181 0 186 (dk_at dksX0_terms_5 4 rfl rfl)
theorem dX0_terms_122 : decode cX0_terms 122 = .ok (.aload_n 0, 1) := dk_42 (dk_at dksX0_terms_5 7 rfl rfl)
theorem dX0_terms_123 : decode cX0_terms 123 = .ok (.iload_n 3, 1) := dk_29 (dk_at dksX0_terms_5 8 rfl rfl)
theorem dX0_terms_124 : decode cX0_terms 124 = .ok (.invokevirtual 122, 3) := dk_182 0 122 (dk_at dksX0_terms_5 9 rfl rfl)
theorem dX0_terms_127 : decode cX0_terms 127 = .ok (.ireturn, 1) := dk_172 (dk_at dksX0_terms_5 12 rfl rfl)
abbrev cX0_feed : ByteArray := prog_1_method_26_code
def yX0_feed : MethodName := ⟨RX0, "feed", "(IIIII)I"⟩
def dkwX0_feed_2 : List UInt8 := [172]
abbrev dktX0_feed_2 : List UInt8 := dkwX0_feed_2 ++ []
def dkwX0_feed_1 : List UInt8 := [182, 0, 192, 42, 29, 182, 0, 192, 42, 21, 4, 182, 0, 192, 42, 21, 5, 182, 0, 192, 42, 180, 0, 189]
abbrev dktX0_feed_1 : List UInt8 := dkwX0_feed_1 ++ dktX0_feed_2
def dkwX0_feed_0 : List UInt8 := [42, 180, 0, 189, 16, 20, 96, 17, 1, 144, 164, 0, 5, 2, 172, 42, 27, 182, 0, 192, 42, 28]
abbrev dktX0_feed_0 : List UInt8 := dkwX0_feed_0 ++ dktX0_feed_1
theorem dksX0_feed_0 : cX0_feed.data.toList.drop 0 = dktX0_feed_0 := by decide +kernel
theorem dksX0_feed_1 : cX0_feed.data.toList.drop 22 = dktX0_feed_1 := dk_seg dksX0_feed_0 22 rfl rfl
theorem dksX0_feed_2 : cX0_feed.data.toList.drop 46 = dktX0_feed_2 := dk_seg dksX0_feed_1 24 rfl rfl
theorem dX0_feed_0 : decode cX0_feed 0 = .ok (.aload_n 0, 1) := dk_42 (dk_at dksX0_feed_0 0 rfl rfl)
theorem dX0_feed_1 : decode cX0_feed 1 = .ok (.getfield 189, 3) := dk_180 0 189 (dk_at dksX0_feed_0 1 rfl rfl)
theorem dX0_feed_4 : decode cX0_feed 4 = .ok (.bipush 20, 2) := dk_16 20 (dk_at dksX0_feed_0 4 rfl rfl)
theorem dX0_feed_6 : decode cX0_feed 6 = .ok (.iadd, 1) := dk_96 (dk_at dksX0_feed_0 6 rfl rfl)
theorem dX0_feed_7 : decode cX0_feed 7 = .ok (.sipush 400, 3) := dk_17 1 144 (dk_at dksX0_feed_0 7 rfl rfl)
theorem dX0_feed_10 : decode cX0_feed 10 = .ok (.if_icmp .le 5, 3) := dk_164 0 5 (dk_at dksX0_feed_0 10 rfl rfl)
theorem dX0_feed_13 : decode cX0_feed 13 = .ok (.iconst (-1), 1) := dk_2 (dk_at dksX0_feed_0 13 rfl rfl)
theorem dX0_feed_14 : decode cX0_feed 14 = .ok (.ireturn, 1) := dk_172 (dk_at dksX0_feed_0 14 rfl rfl)
theorem dX0_feed_15 : decode cX0_feed 15 = .ok (.aload_n 0, 1) := dk_42 (dk_at dksX0_feed_0 15 rfl rfl)
theorem dX0_feed_16 : decode cX0_feed 16 = .ok (.iload_n 1, 1) := dk_27 (dk_at dksX0_feed_0 16 rfl rfl)
theorem dX0_feed_17 : decode cX0_feed 17 = .ok (.invokevirtual 192, 3) := dk_182 0 192 (dk_at dksX0_feed_0 17 rfl rfl)
theorem dX0_feed_20 : decode cX0_feed 20 = .ok (.aload_n 0, 1) := dk_42 (dk_at dksX0_feed_0 20 rfl rfl)
theorem dX0_feed_21 : decode cX0_feed 21 = .ok (.iload_n 2, 1) := dk_28 (dk_at dksX0_feed_0 21 rfl rfl)
theorem dX0_feed_22 : decode cX0_feed 22 = .ok (.invokevirtual 192, 3) := dk_182 0 192 (dk_at dksX0_feed_1 0 rfl rfl)
theorem dX0_feed_25 : decode cX0_feed 25 = .ok (.aload_n 0, 1) := dk_42 (dk_at dksX0_feed_1 3 rfl rfl)
theorem dX0_feed_26 : decode cX0_feed 26 = .ok (.iload_n 3, 1) := dk_29 (dk_at dksX0_feed_1 4 rfl rfl)
theorem dX0_feed_27 : decode cX0_feed 27 = .ok (.invokevirtual 192, 3) := dk_182 0 192 (dk_at dksX0_feed_1 5 rfl rfl)
theorem dX0_feed_30 : decode cX0_feed 30 = .ok (.aload_n 0, 1) := dk_42 (dk_at dksX0_feed_1 8 rfl rfl)
theorem dX0_feed_31 : decode cX0_feed 31 = .ok (.iload 4, 2) := dk_21 4 (dk_at dksX0_feed_1 9 rfl rfl)
theorem dX0_feed_33 : decode cX0_feed 33 = .ok (.invokevirtual 192, 3) := dk_182 0 192 (dk_at dksX0_feed_1 11 rfl rfl)
theorem dX0_feed_36 : decode cX0_feed 36 = .ok (.aload_n 0, 1) := dk_42 (dk_at dksX0_feed_1 14 rfl rfl)
theorem dX0_feed_37 : decode cX0_feed 37 = .ok (.iload 5, 2) := dk_21 5 (dk_at dksX0_feed_1 15 rfl rfl)
theorem dX0_feed_39 : decode cX0_feed 39 = .ok (.invokevirtual 192, 3) := dk_182 0 192 (dk_at dksX0_feed_1 17 rfl rfl)
theorem dX0_feed_42 : decode cX0_feed 42 = .ok (.aload_n 0, 1) := dk_42 (dk_at dksX0_feed_1 20 rfl rfl)
theorem dX0_feed_43 : decode cX0_feed 43 = .ok (.getfield 189, 3) := dk_180 0 189 (dk_at dksX0_feed_1 21 rfl rfl)
theorem dX0_feed_46 : decode cX0_feed 46 = .ok (.ireturn, 1) := dk_172 (dk_at dksX0_feed_2 0 rfl rfl)
abbrev cX0_four : ByteArray := prog_1_method_27_code
def yX0_four : MethodName := ⟨RX0, "four", "(I)V"⟩
def dkwX0_four_1 : List UInt8 := [180, 0, 189, 4, 96, 181, 0, 189, 132, 2, 248, 167, 255, 226, 177]
abbrev dktX0_four_1 : List UInt8 := dkwX0_four_1 ++ []
def dkwX0_four_0 : List UInt8 := [16, 24, 61, 28, 155, 0, 32, 42, 180, 0, 71, 42, 180, 0, 189, 27, 28, 122, 145, 84, 42, 89]
abbrev dktX0_four_0 : List UInt8 := dkwX0_four_0 ++ dktX0_four_1
theorem dksX0_four_0 : cX0_four.data.toList.drop 0 = dktX0_four_0 := by decide +kernel
theorem dksX0_four_1 : cX0_four.data.toList.drop 22 = dktX0_four_1 := dk_seg dksX0_four_0 22 rfl rfl
theorem dX0_four_0 : decode cX0_four 0 = .ok (.bipush 24, 2) := dk_16 24 (dk_at dksX0_four_0 0 rfl rfl)
theorem dX0_four_2 : decode cX0_four 2 = .ok (.istore_n 2, 1) := dk_61 (dk_at dksX0_four_0 2 rfl rfl)
theorem dX0_four_3 : decode cX0_four 3 = .ok (.iload_n 2, 1) := dk_28 (dk_at dksX0_four_0 3 rfl rfl)
theorem dX0_four_4 : decode cX0_four 4 = .ok (.ifCond .lt 32, 3) := dk_155 0 32 (dk_at dksX0_four_0 4 rfl rfl)
theorem dX0_four_7 : decode cX0_four 7 = .ok (.aload_n 0, 1) := dk_42 (dk_at dksX0_four_0 7 rfl rfl)
theorem dX0_four_8 : decode cX0_four 8 = .ok (.getfield 71, 3) := dk_180 0 71 (dk_at dksX0_four_0 8 rfl rfl)
theorem dX0_four_11 : decode cX0_four 11 = .ok (.aload_n 0, 1) := dk_42 (dk_at dksX0_four_0 11 rfl rfl)
theorem dX0_four_12 : decode cX0_four 12 = .ok (.getfield 189, 3) := dk_180 0 189 (dk_at dksX0_four_0 12 rfl rfl)
theorem dX0_four_15 : decode cX0_four 15 = .ok (.iload_n 1, 1) := dk_27 (dk_at dksX0_four_0 15 rfl rfl)
theorem dX0_four_16 : decode cX0_four 16 = .ok (.iload_n 2, 1) := dk_28 (dk_at dksX0_four_0 16 rfl rfl)
theorem dX0_four_17 : decode cX0_four 17 = .ok (.ishr, 1) := dk_122 (dk_at dksX0_four_0 17 rfl rfl)
theorem dX0_four_18 : decode cX0_four 18 = .ok (.i2b, 1) := dk_145 (dk_at dksX0_four_0 18 rfl rfl)
theorem dX0_four_19 : decode cX0_four 19 = .ok (.bastore, 1) := dk_84 (dk_at dksX0_four_0 19 rfl rfl)
theorem dX0_four_20 : decode cX0_four 20 = .ok (.aload_n 0, 1) := dk_42 (dk_at dksX0_four_0 20 rfl rfl)
theorem dX0_four_21 : decode cX0_four 21 = .ok (.dup, 1) := dk_89 (dk_at dksX0_four_0 21 rfl rfl)
theorem dX0_four_22 : decode cX0_four 22 = .ok (.getfield 189, 3) := dk_180 0 189 (dk_at dksX0_four_1 0 rfl rfl)
theorem dX0_four_25 : decode cX0_four 25 = .ok (.iconst 1, 1) := dk_4 (dk_at dksX0_four_1 3 rfl rfl)
theorem dX0_four_26 : decode cX0_four 26 = .ok (.iadd, 1) := dk_96 (dk_at dksX0_four_1 4 rfl rfl)
theorem dX0_four_27 : decode cX0_four 27 = .ok (.putfield 189, 3) := dk_181 0 189 (dk_at dksX0_four_1 5 rfl rfl)
theorem dX0_four_30 : decode cX0_four 30 = .ok (.iinc 2 (-8), 3) := dk_132 2 248 (dk_at dksX0_four_1 8 rfl rfl)
theorem dX0_four_33 : decode cX0_four 33 = .ok (.goto (-30), 3) := dk_167 255 226 (dk_at dksX0_four_1 11 rfl rfl)
theorem dX0_four_36 : decode cX0_four 36 = .ok (.return_, 1) := dk_177 (dk_at dksX0_four_1 14 rfl rfl)
abbrev cX0_end : ByteArray := prog_1_method_28_code
def yX0_end : MethodName := ⟨RX0, "end", "(I)I"⟩
def dkwX0_end_0 : List UInt8 := [27, 155, 0, 11, 27, 42, 180, 0, 189, 164, 0, 5, 2, 172, 42, 27, 181, 0, 189, 27, 172]
abbrev dktX0_end_0 : List UInt8 := dkwX0_end_0 ++ []
theorem dksX0_end_0 : cX0_end.data.toList.drop 0 = dktX0_end_0 := by decide +kernel
theorem dX0_end_0 : decode cX0_end 0 = .ok (.iload_n 1, 1) := dk_27 (dk_at dksX0_end_0 0 rfl rfl)
theorem dX0_end_1 : decode cX0_end 1 = .ok (.ifCond .lt 11, 3) := dk_155 0 11 (dk_at dksX0_end_0 1 rfl rfl)
theorem dX0_end_4 : decode cX0_end 4 = .ok (.iload_n 1, 1) := dk_27 (dk_at dksX0_end_0 4 rfl rfl)
theorem dX0_end_5 : decode cX0_end 5 = .ok (.aload_n 0, 1) := dk_42 (dk_at dksX0_end_0 5 rfl rfl)
theorem dX0_end_6 : decode cX0_end 6 = .ok (.getfield 189, 3) := dk_180 0 189 (dk_at dksX0_end_0 6 rfl rfl)
theorem dX0_end_9 : decode cX0_end 9 = .ok (.if_icmp .le 5, 3) := dk_164 0 5 (dk_at dksX0_end_0 9 rfl rfl)
theorem dX0_end_12 : decode cX0_end 12 = .ok (.iconst (-1), 1) := dk_2 (dk_at dksX0_end_0 12 rfl rfl)
theorem dX0_end_13 : decode cX0_end 13 = .ok (.ireturn, 1) := dk_172 (dk_at dksX0_end_0 13 rfl rfl)
theorem dX0_end_14 : decode cX0_end 14 = .ok (.aload_n 0, 1) := dk_42 (dk_at dksX0_end_0 14 rfl rfl)
theorem dX0_end_15 : decode cX0_end 15 = .ok (.iload_n 1, 1) := dk_27 (dk_at dksX0_end_0 15 rfl rfl)
theorem dX0_end_16 : decode cX0_end 16 = .ok (.putfield 189, 3) := dk_181 0 189 (dk_at dksX0_end_0 16 rfl rfl)
theorem dX0_end_19 : decode cX0_end 19 = .ok (.iload_n 1, 1) := dk_27 (dk_at dksX0_end_0 19 rfl rfl)
theorem dX0_end_20 : decode cX0_end 20 = .ok (.ireturn, 1) := dk_172 (dk_at dksX0_end_0 20 rfl rfl)
abbrev cX0_row : ByteArray := prog_1_method_29_code
def yX0_row : MethodName := ⟨RX0, "row", "()I"⟩
def dkwX0_row_6 : List UInt8 := [182, 0, 122, 172]
abbrev dktX0_row_6 : List UInt8 := dkwX0_row_6 ++ []
def dkwX0_row_5 : List UInt8 := [21, 4, 153, 0, 7, 3, 167, 0, 4, 4, 96, 181, 0, 196, 132, 3, 2, 167, 255, 152, 42, 28]
abbrev dktX0_row_5 : List UInt8 := dkwX0_row_5 ++ dktX0_row_6
def dkwX0_row_4 : List UInt8 := [96, 51, 182, 0, 148, 28, 21, 4, 153, 0, 7, 4, 167, 0, 4, 3, 96, 61, 42, 89, 180, 0, 196]
abbrev dktX0_row_4 : List UInt8 := dkwX0_row_4 ++ dktX0_row_5
def dkwX0_row_3 : List UInt8 := [167, 0, 4, 3, 54, 4, 21, 4, 153, 0, 21, 42, 42, 180, 0, 71, 29, 51, 42, 180, 0, 71, 29, 4]
abbrev dktX0_row_3 : List UInt8 := dkwX0_row_3 ++ dktX0_row_4
def dkwX0_row_2 : List UInt8 := [162, 0, 27, 42, 180, 0, 71, 29, 51, 42, 180, 0, 71, 29, 4, 96, 51, 184, 0, 144, 153, 0, 7, 4]
abbrev dktX0_row_2 : List UInt8 := dkwX0_row_2 ++ dktX0_row_3
def dkwX0_row_1 : List UInt8 := [27, 5, 112, 181, 0, 196, 3, 62, 29, 5, 96, 27, 163, 0, 103, 42, 180, 0, 43, 180, 0, 112, 16, 6]
abbrev dktX0_row_1 : List UInt8 := dkwX0_row_1 ++ dktX0_row_2
def dkwX0_row_0 : List UInt8 := [42, 180, 0, 189, 60, 42, 3, 181, 0, 189, 27, 154, 0, 10, 42, 16, 250, 182, 0, 115, 172, 3, 61, 42]
abbrev dktX0_row_0 : List UInt8 := dkwX0_row_0 ++ dktX0_row_1
theorem dksX0_row_0 : cX0_row.data.toList.drop 0 = dktX0_row_0 := by decide +kernel
theorem dksX0_row_1 : cX0_row.data.toList.drop 24 = dktX0_row_1 := dk_seg dksX0_row_0 24 rfl rfl
theorem dksX0_row_2 : cX0_row.data.toList.drop 48 = dktX0_row_2 := dk_seg dksX0_row_1 24 rfl rfl
theorem dksX0_row_3 : cX0_row.data.toList.drop 72 = dktX0_row_3 := dk_seg dksX0_row_2 24 rfl rfl
theorem dksX0_row_4 : cX0_row.data.toList.drop 96 = dktX0_row_4 := dk_seg dksX0_row_3 24 rfl rfl
theorem dksX0_row_5 : cX0_row.data.toList.drop 119 = dktX0_row_5 := dk_seg dksX0_row_4 23 rfl rfl
theorem dksX0_row_6 : cX0_row.data.toList.drop 141 = dktX0_row_6 := dk_seg dksX0_row_5 22 rfl rfl
theorem dX0_row_0 : decode cX0_row 0 = .ok (.aload_n 0, 1) := dk_42 (dk_at dksX0_row_0 0 rfl rfl)
theorem dX0_row_1 : decode cX0_row 1 = .ok (.getfield 189, 3) := dk_180 0 189 (dk_at dksX0_row_0 1 rfl rfl)
theorem dX0_row_4 : decode cX0_row 4 = .ok (.istore_n 1, 1) := dk_60 (dk_at dksX0_row_0 4 rfl rfl)
theorem dX0_row_5 : decode cX0_row 5 = .ok (.aload_n 0, 1) := dk_42 (dk_at dksX0_row_0 5 rfl rfl)
theorem dX0_row_6 : decode cX0_row 6 = .ok (.iconst 0, 1) := dk_3 (dk_at dksX0_row_0 6 rfl rfl)
theorem dX0_row_7 : decode cX0_row 7 = .ok (.putfield 189, 3) := dk_181 0 189 (dk_at dksX0_row_0 7 rfl rfl)
theorem dX0_row_10 : decode cX0_row 10 = .ok (.iload_n 1, 1) := dk_27 (dk_at dksX0_row_0 10 rfl rfl)
theorem dX0_row_11 : decode cX0_row 11 = .ok (.ifCond .ne 10, 3) := dk_154 0 10 (dk_at dksX0_row_0 11 rfl rfl)
theorem dX0_row_14 : decode cX0_row 14 = .ok (.aload_n 0, 1) := dk_42 (dk_at dksX0_row_0 14 rfl rfl)
theorem dX0_row_15 : decode cX0_row 15 = .ok (.bipush (-6), 2) := dk_16 250 (dk_at dksX0_row_0 15 rfl rfl)
theorem dX0_row_17 : decode cX0_row 17 = .ok (.invokevirtual 115, 3) := dk_182 0 115 (dk_at dksX0_row_0 17 rfl rfl)
theorem dX0_row_20 : decode cX0_row 20 = .ok (.ireturn, 1) := dk_172 (dk_at dksX0_row_0 20 rfl rfl)
theorem dX0_row_21 : decode cX0_row 21 = .ok (.iconst 0, 1) := dk_3 (dk_at dksX0_row_0 21 rfl rfl)
theorem dX0_row_22 : decode cX0_row 22 = .ok (.istore_n 2, 1) := dk_61 (dk_at dksX0_row_0 22 rfl rfl)
theorem dX0_row_23 : decode cX0_row 23 = .ok (.aload_n 0, 1) := dk_42 (dk_at dksX0_row_0 23 rfl rfl)
theorem dX0_row_24 : decode cX0_row 24 = .ok (.iload_n 1, 1) := dk_27 (dk_at dksX0_row_1 0 rfl rfl)
theorem dX0_row_25 : decode cX0_row 25 = .ok (.iconst 2, 1) := dk_5 (dk_at dksX0_row_1 1 rfl rfl)
theorem dX0_row_26 : decode cX0_row 26 = .ok (.irem, 1) := dk_112 (dk_at dksX0_row_1 2 rfl rfl)
theorem dX0_row_27 : decode cX0_row 27 = .ok (.putfield 196, 3) := dk_181 0 196 (dk_at dksX0_row_1 3 rfl rfl)
theorem dX0_row_30 : decode cX0_row 30 = .ok (.iconst 0, 1) := dk_3 (dk_at dksX0_row_1 6 rfl rfl)
theorem dX0_row_31 : decode cX0_row 31 = .ok (.istore_n 3, 1) := dk_62 (dk_at dksX0_row_1 7 rfl rfl)
theorem dX0_row_32 : decode cX0_row 32 = .ok (.iload_n 3, 1) := dk_29 (dk_at dksX0_row_1 8 rfl rfl)
theorem dX0_row_33 : decode cX0_row 33 = .ok (.iconst 2, 1) := dk_5 (dk_at dksX0_row_1 9 rfl rfl)
theorem dX0_row_34 : decode cX0_row 34 = .ok (.iadd, 1) := dk_96 (dk_at dksX0_row_1 10 rfl rfl)
theorem dX0_row_35 : decode cX0_row 35 = .ok (.iload_n 1, 1) := dk_27 (dk_at dksX0_row_1 11 rfl rfl)
theorem dX0_row_36 : decode cX0_row 36 = .ok (.if_icmp .gt 103, 3) := dk_163 0 103 (dk_at dksX0_row_1 12 rfl rfl)
theorem dX0_row_39 : decode cX0_row 39 = .ok (.aload_n 0, 1) := dk_42 (dk_at dksX0_row_1 15 rfl rfl)
theorem dX0_row_40 : decode cX0_row 40 = .ok (.getfield 43, 3) := dk_180 0 43 (dk_at dksX0_row_1 16 rfl rfl)
theorem dX0_row_43 : decode cX0_row 43 = .ok (.getfield 112, 3) := dk_180 0 112 (dk_at dksX0_row_1 19 rfl rfl)
theorem dX0_row_46 : decode cX0_row 46 = .ok (.bipush 6, 2) := dk_16 6 (dk_at dksX0_row_1 22 rfl rfl)
theorem dX0_row_48 : decode cX0_row 48 = .ok (.if_icmp .ge 27, 3) := dk_162 0 27 (dk_at dksX0_row_2 0 rfl rfl)
theorem dX0_row_51 : decode cX0_row 51 = .ok (.aload_n 0, 1) := dk_42 (dk_at dksX0_row_2 3 rfl rfl)
theorem dX0_row_52 : decode cX0_row 52 = .ok (.getfield 71, 3) := dk_180 0 71 (dk_at dksX0_row_2 4 rfl rfl)
theorem dX0_row_55 : decode cX0_row 55 = .ok (.iload_n 3, 1) := dk_29 (dk_at dksX0_row_2 7 rfl rfl)
theorem dX0_row_56 : decode cX0_row 56 = .ok (.baload, 1) := dk_51 (dk_at dksX0_row_2 8 rfl rfl)
theorem dX0_row_57 : decode cX0_row 57 = .ok (.aload_n 0, 1) := dk_42 (dk_at dksX0_row_2 9 rfl rfl)
theorem dX0_row_58 : decode cX0_row 58 = .ok (.getfield 71, 3) := dk_180 0 71 (dk_at dksX0_row_2 10 rfl rfl)
theorem dX0_row_61 : decode cX0_row 61 = .ok (.iload_n 3, 1) := dk_29 (dk_at dksX0_row_2 13 rfl rfl)
theorem dX0_row_62 : decode cX0_row 62 = .ok (.iconst 1, 1) := dk_4 (dk_at dksX0_row_2 14 rfl rfl)
theorem dX0_row_63 : decode cX0_row 63 = .ok (.iadd, 1) := dk_96 (dk_at dksX0_row_2 15 rfl rfl)
theorem dX0_row_64 : decode cX0_row 64 = .ok (.baload, 1) := dk_51 (dk_at dksX0_row_2 16 rfl rfl)
theorem dX0_row_65 : decode cX0_row 65 = .ok (.invokestatic 144, 3) := dk_184 0 144 (dk_at dksX0_row_2 17 rfl rfl)
theorem dX0_row_68 : decode cX0_row 68 = .ok (.ifCond .eq 7, 3) := dk_153 0 7 (dk_at dksX0_row_2 20 rfl rfl)
theorem dX0_row_71 : decode cX0_row 71 = .ok (.iconst 1, 1) := dk_4 (dk_at dksX0_row_2 23 rfl rfl)
theorem dX0_row_72 : decode cX0_row 72 = .ok (.goto 4, 3) := dk_167 0 4 (dk_at dksX0_row_3 0 rfl rfl)
theorem dX0_row_75 : decode cX0_row 75 = .ok (.iconst 0, 1) := dk_3 (dk_at dksX0_row_3 3 rfl rfl)
theorem dX0_row_76 : decode cX0_row 76 = .ok (.istore 4, 2) := dk_54 4 (dk_at dksX0_row_3 4 rfl rfl)
theorem dX0_row_78 : decode cX0_row 78 = .ok (.iload 4, 2) := dk_21 4 (dk_at dksX0_row_3 6 rfl rfl)
theorem dX0_row_80 : decode cX0_row 80 = .ok (.ifCond .eq 21, 3) := dk_153 0 21 (dk_at dksX0_row_3 8 rfl rfl)
theorem dX0_row_83 : decode cX0_row 83 = .ok (.aload_n 0, 1) := dk_42 (dk_at dksX0_row_3 11 rfl rfl)
theorem dX0_row_84 : decode cX0_row 84 = .ok (.aload_n 0, 1) := dk_42 (dk_at dksX0_row_3 12 rfl rfl)
theorem dX0_row_85 : decode cX0_row 85 = .ok (.getfield 71, 3) := dk_180 0 71 (dk_at dksX0_row_3 13 rfl rfl)
theorem dX0_row_88 : decode cX0_row 88 = .ok (.iload_n 3, 1) := dk_29 (dk_at dksX0_row_3 16 rfl rfl)
theorem dX0_row_89 : decode cX0_row 89 = .ok (.baload, 1) := dk_51 (dk_at dksX0_row_3 17 rfl rfl)
theorem dX0_row_90 : decode cX0_row 90 = .ok (.aload_n 0, 1) := dk_42 (dk_at dksX0_row_3 18 rfl rfl)
theorem dX0_row_91 : decode cX0_row 91 = .ok (.getfield 71, 3) := dk_180 0 71 (dk_at dksX0_row_3 19 rfl rfl)
theorem dX0_row_94 : decode cX0_row 94 = .ok (.iload_n 3, 1) := dk_29 (dk_at dksX0_row_3 22 rfl rfl)
theorem dX0_row_95 : decode cX0_row 95 = .ok (.iconst 1, 1) := dk_4 (dk_at dksX0_row_3 23 rfl rfl)
theorem dX0_row_96 : decode cX0_row 96 = .ok (.iadd, 1) := dk_96 (dk_at dksX0_row_4 0 rfl rfl)
theorem dX0_row_97 : decode cX0_row 97 = .ok (.baload, 1) := dk_51 (dk_at dksX0_row_4 1 rfl rfl)
theorem dX0_row_98 : decode cX0_row 98 = .ok (.invokevirtual 148, 3) := dk_182 0 148 (dk_at dksX0_row_4 2 rfl rfl)
theorem dX0_row_101 : decode cX0_row 101 = .ok (.iload_n 2, 1) := dk_28 (dk_at dksX0_row_4 5 rfl rfl)
theorem dX0_row_102 : decode cX0_row 102 = .ok (.iload 4, 2) := dk_21 4 (dk_at dksX0_row_4 6 rfl rfl)
theorem dX0_row_104 : decode cX0_row 104 = .ok (.ifCond .eq 7, 3) := dk_153 0 7 (dk_at dksX0_row_4 8 rfl rfl)
theorem dX0_row_107 : decode cX0_row 107 = .ok (.iconst 1, 1) := dk_4 (dk_at dksX0_row_4 11 rfl rfl)
theorem dX0_row_108 : decode cX0_row 108 = .ok (.goto 4, 3) := dk_167 0 4 (dk_at dksX0_row_4 12 rfl rfl)
theorem dX0_row_111 : decode cX0_row 111 = .ok (.iconst 0, 1) := dk_3 (dk_at dksX0_row_4 15 rfl rfl)
theorem dX0_row_112 : decode cX0_row 112 = .ok (.iadd, 1) := dk_96 (dk_at dksX0_row_4 16 rfl rfl)
theorem dX0_row_113 : decode cX0_row 113 = .ok (.istore_n 2, 1) := dk_61 (dk_at dksX0_row_4 17 rfl rfl)
theorem dX0_row_114 : decode cX0_row 114 = .ok (.aload_n 0, 1) := dk_42 (dk_at dksX0_row_4 18 rfl rfl)
theorem dX0_row_115 : decode cX0_row 115 = .ok (.dup, 1) := dk_89 (dk_at dksX0_row_4 19 rfl rfl)
theorem dX0_row_116 : decode cX0_row 116 = .ok (.getfield 196, 3) := dk_180 0 196 (dk_at dksX0_row_4 20 rfl rfl)
theorem dX0_row_119 : decode cX0_row 119 = .ok (.iload 4, 2) := dk_21 4 (dk_at dksX0_row_5 0 rfl rfl)
theorem dX0_row_121 : decode cX0_row 121 = .ok (.ifCond .eq 7, 3) := dk_153 0 7 (dk_at dksX0_row_5 2 rfl rfl)
theorem dX0_row_124 : decode cX0_row 124 = .ok (.iconst 0, 1) := dk_3 (dk_at dksX0_row_5 5 rfl rfl)
theorem dX0_row_125 : decode cX0_row 125 = .ok (.goto 4, 3) := dk_167 0 4 (dk_at dksX0_row_5 6 rfl rfl)
theorem dX0_row_128 : decode cX0_row 128 = .ok (.iconst 1, 1) := dk_4 (dk_at dksX0_row_5 9 rfl rfl)
theorem dX0_row_129 : decode cX0_row 129 = .ok (.iadd, 1) := dk_96 (dk_at dksX0_row_5 10 rfl rfl)
theorem dX0_row_130 : decode cX0_row 130 = .ok (.putfield 196, 3) := dk_181 0 196 (dk_at dksX0_row_5 11 rfl rfl)
theorem dX0_row_133 : decode cX0_row 133 = .ok (.iinc 3 2, 3) := dk_132 3 2 (dk_at dksX0_row_5 14 rfl rfl)
theorem dX0_row_136 : decode cX0_row 136 = .ok (.goto (-104), 3) := dk_167 255 152 (dk_at dksX0_row_5 17 rfl rfl)
theorem dX0_row_139 : decode cX0_row 139 = .ok (.aload_n 0, 1) := dk_42 (dk_at dksX0_row_5 20 rfl rfl)
theorem dX0_row_140 : decode cX0_row 140 = .ok (.iload_n 2, 1) := dk_28 (dk_at dksX0_row_5 21 rfl rfl)
theorem dX0_row_141 : decode cX0_row 141 = .ok (.invokevirtual 122, 3) := dk_182 0 122 (dk_at dksX0_row_6 0 rfl rfl)
theorem dX0_row_144 : decode cX0_row 144 = .ok (.ireturn, 1) := dk_172 (dk_at dksX0_row_6 3 rfl rfl)
abbrev cX0_brooms : ByteArray := prog_1_method_30_code
def yX0_brooms : MethodName := ⟨RX0, "brooms", "()I"⟩
theorem dX0_brooms_0 : decode cX0_brooms 0 = .ok (.aload_n 0, 1) := by decide +kernel
theorem dX0_brooms_1 : decode cX0_brooms 1 = .ok (.getfield 196, 3) := by decide +kernel
theorem dX0_brooms_4 : decode cX0_brooms 4 = .ok (.ireturn, 1) := by decide +kernel
abbrev cX0_law : ByteArray := prog_1_method_32_code
def yX0_law : MethodName := ⟨RX0, "law", "()I"⟩
def dkwX0_law_4 : List UInt8 := [100, 182, 0, 109, 172]
abbrev dktX0_law_4 : List UInt8 := dkwX0_law_4 ++ []
def dkwX0_law_3 : List UInt8 := [89, 44, 180, 0, 230, 183, 0, 233, 182, 0, 236, 87, 42, 42, 180, 0, 43, 180, 0, 209, 182, 0, 213, 4]
abbrev dktX0_law_3 : List UInt8 := dkwX0_law_3 ++ dktX0_law_4
def dkwX0_law_2 : List UInt8 := [44, 182, 0, 224, 154, 0, 10, 42, 16, 250, 182, 0, 115, 172, 42, 180, 0, 43, 180, 0, 209, 187, 0, 228]
abbrev dktX0_law_2 : List UInt8 := dkwX0_law_2 ++ dktX0_law_3
def dkwX0_law_1 : List UInt8 := [160, 0, 10, 42, 16, 251, 182, 0, 115, 172, 187, 0, 219, 89, 42, 180, 0, 71, 27, 183, 0, 221, 77, 42]
abbrev dktX0_law_1 : List UInt8 := dkwX0_law_1 ++ dktX0_law_2
def dkwX0_law_0 : List UInt8 := [42, 180, 0, 189, 60, 42, 3, 181, 0, 189, 42, 180, 0, 43, 180, 0, 209, 182, 0, 213, 16, 6]
abbrev dktX0_law_0 : List UInt8 := dkwX0_law_0 ++ dktX0_law_1
theorem dksX0_law_0 : cX0_law.data.toList.drop 0 = dktX0_law_0 := by decide +kernel
theorem dksX0_law_1 : cX0_law.data.toList.drop 22 = dktX0_law_1 := dk_seg dksX0_law_0 22 rfl rfl
theorem dksX0_law_2 : cX0_law.data.toList.drop 46 = dktX0_law_2 := dk_seg dksX0_law_1 24 rfl rfl
theorem dksX0_law_3 : cX0_law.data.toList.drop 70 = dktX0_law_3 := dk_seg dksX0_law_2 24 rfl rfl
theorem dksX0_law_4 : cX0_law.data.toList.drop 94 = dktX0_law_4 := dk_seg dksX0_law_3 24 rfl rfl
theorem dX0_law_0 : decode cX0_law 0 = .ok (.aload_n 0, 1) := dk_42 (dk_at dksX0_law_0 0 rfl rfl)
theorem dX0_law_1 : decode cX0_law 1 = .ok (.getfield 189, 3) := dk_180 0 189 (dk_at dksX0_law_0 1 rfl rfl)
theorem dX0_law_4 : decode cX0_law 4 = .ok (.istore_n 1, 1) := dk_60 (dk_at dksX0_law_0 4 rfl rfl)
theorem dX0_law_5 : decode cX0_law 5 = .ok (.aload_n 0, 1) := dk_42 (dk_at dksX0_law_0 5 rfl rfl)
theorem dX0_law_6 : decode cX0_law 6 = .ok (.iconst 0, 1) := dk_3 (dk_at dksX0_law_0 6 rfl rfl)
theorem dX0_law_7 : decode cX0_law 7 = .ok (.putfield 189, 3) := dk_181 0 189 (dk_at dksX0_law_0 7 rfl rfl)
theorem dX0_law_10 : decode cX0_law 10 = .ok (.aload_n 0, 1) := dk_42 (dk_at dksX0_law_0 10 rfl rfl)
theorem dX0_law_11 : decode cX0_law 11 = .ok (.getfield 43, 3) := dk_180 0 43 (dk_at dksX0_law_0 11 rfl rfl)
theorem dX0_law_14 : decode cX0_law 14 = .ok (.getfield 209, 3) := dk_180 0 209 (dk_at dksX0_law_0 14 rfl rfl)
theorem dX0_law_17 : decode cX0_law 17 = .ok (.invokevirtual 213, 3) := dk_182 0 213 (dk_at dksX0_law_0 17 rfl rfl)
theorem dX0_law_20 : decode cX0_law 20 = .ok (.bipush 6, 2) := dk_16 6 (dk_at dksX0_law_0 20 rfl rfl)
theorem dX0_law_22 : decode cX0_law 22 = .ok (.if_icmp .ne 10, 3) := dk_160 0 10 (dk_at dksX0_law_1 0 rfl rfl)
theorem dX0_law_25 : decode cX0_law 25 = .ok (.aload_n 0, 1) := dk_42 (dk_at dksX0_law_1 3 rfl rfl)
theorem dX0_law_26 : decode cX0_law 26 = .ok (.bipush (-5), 2) := dk_16 251 (dk_at dksX0_law_1 4 rfl rfl)
theorem dX0_law_28 : decode cX0_law 28 = .ok (.invokevirtual 115, 3) := dk_182 0 115 (dk_at dksX0_law_1 6 rfl rfl)
theorem dX0_law_31 : decode cX0_law 31 = .ok (.ireturn, 1) := dk_172 (dk_at dksX0_law_1 9 rfl rfl)
theorem dX0_law_32 : decode cX0_law 32 = .ok (.new 219, 3) := dk_187 0 219 (dk_at dksX0_law_1 10 rfl rfl)
theorem dX0_law_35 : decode cX0_law 35 = .ok (.dup, 1) := dk_89 (dk_at dksX0_law_1 13 rfl rfl)
theorem dX0_law_36 : decode cX0_law 36 = .ok (.aload_n 0, 1) := dk_42 (dk_at dksX0_law_1 14 rfl rfl)
theorem dX0_law_37 : decode cX0_law 37 = .ok (.getfield 71, 3) := dk_180 0 71 (dk_at dksX0_law_1 15 rfl rfl)
theorem dX0_law_40 : decode cX0_law 40 = .ok (.iload_n 1, 1) := dk_27 (dk_at dksX0_law_1 18 rfl rfl)
theorem dX0_law_41 : decode cX0_law 41 = .ok (.invokespecial 221, 3) := dk_183 0 221 (dk_at dksX0_law_1 19 rfl rfl)
theorem dX0_law_44 : decode cX0_law 44 = .ok (.astore_n 2, 1) := dk_77 (dk_at dksX0_law_1 22 rfl rfl)
theorem dX0_law_45 : decode cX0_law 45 = .ok (.aload_n 0, 1) := dk_42 (dk_at dksX0_law_1 23 rfl rfl)
theorem dX0_law_46 : decode cX0_law 46 = .ok (.aload_n 2, 1) := dk_44 (dk_at dksX0_law_2 0 rfl rfl)
theorem dX0_law_47 : decode cX0_law 47 = .ok (.invokevirtual 224, 3) := dk_182 0 224 (dk_at dksX0_law_2 1 rfl rfl)
theorem dX0_law_50 : decode cX0_law 50 = .ok (.ifCond .ne 10, 3) := dk_154 0 10 (dk_at dksX0_law_2 4 rfl rfl)
theorem dX0_law_53 : decode cX0_law 53 = .ok (.aload_n 0, 1) := dk_42 (dk_at dksX0_law_2 7 rfl rfl)
theorem dX0_law_54 : decode cX0_law 54 = .ok (.bipush (-6), 2) := dk_16 250 (dk_at dksX0_law_2 8 rfl rfl)
theorem dX0_law_56 : decode cX0_law 56 = .ok (.invokevirtual 115, 3) := dk_182 0 115 (dk_at dksX0_law_2 10 rfl rfl)
theorem dX0_law_59 : decode cX0_law 59 = .ok (.ireturn, 1) := dk_172 (dk_at dksX0_law_2 13 rfl rfl)
theorem dX0_law_60 : decode cX0_law 60 = .ok (.aload_n 0, 1) := dk_42 (dk_at dksX0_law_2 14 rfl rfl)
theorem dX0_law_61 : decode cX0_law 61 = .ok (.getfield 43, 3) := dk_180 0 43 (dk_at dksX0_law_2 15 rfl rfl)
theorem dX0_law_64 : decode cX0_law 64 = .ok (.getfield 209, 3) := dk_180 0 209 (dk_at dksX0_law_2 18 rfl rfl)
theorem dX0_law_67 : decode cX0_law 67 = .ok (.new 228, 3) := dk_187 0 228 (dk_at dksX0_law_2 21 rfl rfl)
theorem dX0_law_70 : decode cX0_law 70 = .ok (.dup, 1) := dk_89 (dk_at dksX0_law_3 0 rfl rfl)
theorem dX0_law_71 : decode cX0_law 71 = .ok (.aload_n 2, 1) := dk_44 (dk_at dksX0_law_3 1 rfl rfl)
theorem dX0_law_72 : decode cX0_law 72 = .ok (.getfield 230, 3) := dk_180 0 230 (dk_at dksX0_law_3 2 rfl rfl)
theorem dX0_law_75 : decode cX0_law 75 = .ok (.invokespecial 233, 3) := dk_183 0 233 (dk_at dksX0_law_3 5 rfl rfl)
theorem dX0_law_78 : decode cX0_law 78 = .ok (.invokevirtual 236, 3) := dk_182 0 236 (dk_at dksX0_law_3 8 rfl rfl)
theorem dX0_law_81 : decode cX0_law 81 = .ok (.pop, 1) := dk_87 (dk_at dksX0_law_3 11 rfl rfl)
theorem dX0_law_82 : decode cX0_law 82 = .ok (.aload_n 0, 1) := dk_42 (dk_at dksX0_law_3 12 rfl rfl)
theorem dX0_law_83 : decode cX0_law 83 = .ok (.aload_n 0, 1) := dk_42 (dk_at dksX0_law_3 13 rfl rfl)
theorem dX0_law_84 : decode cX0_law 84 = .ok (.getfield 43, 3) := dk_180 0 43 (dk_at dksX0_law_3 14 rfl rfl)
theorem dX0_law_87 : decode cX0_law 87 = .ok (.getfield 209, 3) := dk_180 0 209 (dk_at dksX0_law_3 17 rfl rfl)
theorem dX0_law_90 : decode cX0_law 90 = .ok (.invokevirtual 213, 3) := dk_182 0 213 (dk_at dksX0_law_3 20 rfl rfl)
theorem dX0_law_93 : decode cX0_law 93 = .ok (.iconst 1, 1) := dk_4 (dk_at dksX0_law_3 23 rfl rfl)
theorem dX0_law_94 : decode cX0_law 94 = .ok (.isub, 1) := dk_100 (dk_at dksX0_law_4 0 rfl rfl)
theorem dX0_law_95 : decode cX0_law 95 = .ok (.invokevirtual 109, 3) := dk_182 0 109 (dk_at dksX0_law_4 1 rfl rfl)
theorem dX0_law_98 : decode cX0_law 98 = .ok (.ireturn, 1) := dk_172 (dk_at dksX0_law_4 4 rfl rfl)
abbrev cX0_reads : ByteArray := prog_1_method_31_code
def yX0_reads : MethodName := ⟨RX0, "reads", "(LOpenGates$Reader;)Z"⟩
def dkwX0_reads_1 : List UInt8 := [172]
abbrev dktX0_reads_1 : List UInt8 := dkwX0_reads_1 ++ []
def dkwX0_reads_0 : List UInt8 := [43, 182, 0, 199, 167, 0, 14, 77, 42, 44, 180, 0, 206, 181, 0, 75, 3, 172, 42, 2, 181, 0, 75, 4]
abbrev dktX0_reads_0 : List UInt8 := dkwX0_reads_0 ++ dktX0_reads_1
theorem dksX0_reads_0 : cX0_reads.data.toList.drop 0 = dktX0_reads_0 := by decide +kernel
theorem dksX0_reads_1 : cX0_reads.data.toList.drop 24 = dktX0_reads_1 := dk_seg dksX0_reads_0 24 rfl rfl
theorem dX0_reads_0 : decode cX0_reads 0 = .ok (.aload_n 1, 1) := dk_43 (dk_at dksX0_reads_0 0 rfl rfl)
theorem dX0_reads_1 : decode cX0_reads 1 = .ok (.invokevirtual 199, 3) := dk_182 0 199 (dk_at dksX0_reads_0 1 rfl rfl)
theorem dX0_reads_4 : decode cX0_reads 4 = .ok (.goto 14, 3) := dk_167 0 14 (dk_at dksX0_reads_0 4 rfl rfl)
theorem dX0_reads_7 : decode cX0_reads 7 = .ok (.astore_n 2, 1) := dk_77 (dk_at dksX0_reads_0 7 rfl rfl)
theorem dX0_reads_8 : decode cX0_reads 8 = .ok (.aload_n 0, 1) := dk_42 (dk_at dksX0_reads_0 8 rfl rfl)
theorem dX0_reads_9 : decode cX0_reads 9 = .ok (.aload_n 2, 1) := dk_44 (dk_at dksX0_reads_0 9 rfl rfl)
theorem dX0_reads_10 : decode cX0_reads 10 = .ok (.getfield 206, 3) := dk_180 0 206 (dk_at dksX0_reads_0 10 rfl rfl)
theorem dX0_reads_13 : decode cX0_reads 13 = .ok (.putfield 75, 3) := dk_181 0 75 (dk_at dksX0_reads_0 13 rfl rfl)
theorem dX0_reads_16 : decode cX0_reads 16 = .ok (.iconst 0, 1) := dk_3 (dk_at dksX0_reads_0 16 rfl rfl)
theorem dX0_reads_17 : decode cX0_reads 17 = .ok (.ireturn, 1) := dk_172 (dk_at dksX0_reads_0 17 rfl rfl)
theorem dX0_reads_18 : decode cX0_reads 18 = .ok (.aload_n 0, 1) := dk_42 (dk_at dksX0_reads_0 18 rfl rfl)
theorem dX0_reads_19 : decode cX0_reads 19 = .ok (.iconst (-1), 1) := dk_2 (dk_at dksX0_reads_0 19 rfl rfl)
theorem dX0_reads_20 : decode cX0_reads 20 = .ok (.putfield 75, 3) := dk_181 0 75 (dk_at dksX0_reads_0 20 rfl rfl)
theorem dX0_reads_23 : decode cX0_reads 23 = .ok (.iconst 1, 1) := dk_4 (dk_at dksX0_reads_0 23 rfl rfl)
theorem dX0_reads_24 : decode cX0_reads 24 = .ok (.ireturn, 1) := dk_172 (dk_at dksX0_reads_1 0 rfl rfl)
abbrev cX0_fault : ByteArray := prog_1_method_33_code
def yX0_fault : MethodName := ⟨RX0, "fault", "()I"⟩
theorem dX0_fault_0 : decode cX0_fault 0 = .ok (.aload_n 0, 1) := by decide +kernel
theorem dX0_fault_1 : decode cX0_fault 1 = .ok (.getfield 75, 3) := by decide +kernel
theorem dX0_fault_4 : decode cX0_fault 4 = .ok (.ireturn, 1) := by decide +kernel
abbrev cX0_stopped : ByteArray := prog_1_method_34_code
def yX0_stopped : MethodName := ⟨RX0, "stopped", "()I"⟩
theorem dX0_stopped_0 : decode cX0_stopped 0 = .ok (.aload_n 0, 1) := by decide +kernel
theorem dX0_stopped_1 : decode cX0_stopped 1 = .ok (.getfield 78, 3) := by decide +kernel
theorem dX0_stopped_4 : decode cX0_stopped 4 = .ok (.ireturn, 1) := by decide +kernel
abbrev cX0_force : ByteArray := prog_1_method_35_code
def yX0_force : MethodName := ⟨RX0, "force", "(I)I"⟩
def dkwX0_force_2 : List UInt8 := [181, 0, 240, 42, 28, 182, 0, 109, 172]
abbrev dktX0_force_2 : List UInt8 := dkwX0_force_2 ++ []
def dkwX0_force_1 : List UInt8 := [154, 0, 10, 42, 16, 254, 182, 0, 115, 172, 42, 180, 0, 43, 180, 0, 240, 61, 42, 180, 0, 43, 27]
abbrev dktX0_force_1 : List UInt8 := dkwX0_force_1 ++ dktX0_force_2
def dkwX0_force_0 : List UInt8 := [27, 2, 159, 0, 30, 27, 3, 42, 180, 0, 43, 180, 0, 209, 182, 0, 213, 4, 100, 184, 0, 26]
abbrev dktX0_force_0 : List UInt8 := dkwX0_force_0 ++ dktX0_force_1
theorem dksX0_force_0 : cX0_force.data.toList.drop 0 = dktX0_force_0 := by decide +kernel
theorem dksX0_force_1 : cX0_force.data.toList.drop 22 = dktX0_force_1 := dk_seg dksX0_force_0 22 rfl rfl
theorem dksX0_force_2 : cX0_force.data.toList.drop 45 = dktX0_force_2 := dk_seg dksX0_force_1 23 rfl rfl
theorem dX0_force_0 : decode cX0_force 0 = .ok (.iload_n 1, 1) := dk_27 (dk_at dksX0_force_0 0 rfl rfl)
theorem dX0_force_1 : decode cX0_force 1 = .ok (.iconst (-1), 1) := dk_2 (dk_at dksX0_force_0 1 rfl rfl)
theorem dX0_force_2 : decode cX0_force 2 = .ok (.if_icmp .eq 30, 3) := dk_159 0 30 (dk_at dksX0_force_0 2 rfl rfl)
theorem dX0_force_5 : decode cX0_force 5 = .ok (.iload_n 1, 1) := dk_27 (dk_at dksX0_force_0 5 rfl rfl)
theorem dX0_force_6 : decode cX0_force 6 = .ok (.iconst 0, 1) := dk_3 (dk_at dksX0_force_0 6 rfl rfl)
theorem dX0_force_7 : decode cX0_force 7 = .ok (.aload_n 0, 1) := dk_42 (dk_at dksX0_force_0 7 rfl rfl)
theorem dX0_force_8 : decode cX0_force 8 = .ok (.getfield 43, 3) := dk_180 0 43 (dk_at dksX0_force_0 8 rfl rfl)
theorem dX0_force_11 : decode cX0_force 11 = .ok (.getfield 209, 3) := dk_180 0 209 (dk_at dksX0_force_0 11 rfl rfl)
theorem dX0_force_14 : decode cX0_force 14 = .ok (.invokevirtual 213, 3) := dk_182 0 213 (dk_at dksX0_force_0 14 rfl rfl)
theorem dX0_force_17 : decode cX0_force 17 = .ok (.iconst 1, 1) := dk_4 (dk_at dksX0_force_0 17 rfl rfl)
theorem dX0_force_18 : decode cX0_force 18 = .ok (.isub, 1) := dk_100 (dk_at dksX0_force_0 18 rfl rfl)
theorem dX0_force_19 : decode cX0_force 19 = .ok (.invokestatic 26, 3) := dk_184 0 26 (dk_at dksX0_force_0 19 rfl rfl)
theorem dX0_force_22 : decode cX0_force 22 = .ok (.ifCond .ne 10, 3) := dk_154 0 10 (dk_at dksX0_force_1 0 rfl rfl)
theorem dX0_force_25 : decode cX0_force 25 = .ok (.aload_n 0, 1) := dk_42 (dk_at dksX0_force_1 3 rfl rfl)
theorem dX0_force_26 : decode cX0_force 26 = .ok (.bipush (-2), 2) := dk_16 254 (dk_at dksX0_force_1 4 rfl rfl)
theorem dX0_force_28 : decode cX0_force 28 = .ok (.invokevirtual 115, 3) := dk_182 0 115 (dk_at dksX0_force_1 6 rfl rfl)
theorem dX0_force_31 : decode cX0_force 31 = .ok (.ireturn, 1) := dk_172 (dk_at dksX0_force_1 9 rfl rfl)
theorem dX0_force_32 : decode cX0_force 32 = .ok (.aload_n 0, 1) := dk_42 (dk_at dksX0_force_1 10 rfl rfl)
theorem dX0_force_33 : decode cX0_force 33 = .ok (.getfield 43, 3) := dk_180 0 43 (dk_at dksX0_force_1 11 rfl rfl)
theorem dX0_force_36 : decode cX0_force 36 = .ok (.getfield 240, 3) := dk_180 0 240 (dk_at dksX0_force_1 14 rfl rfl)
theorem dX0_force_39 : decode cX0_force 39 = .ok (.istore_n 2, 1) := dk_61 (dk_at dksX0_force_1 17 rfl rfl)
theorem dX0_force_40 : decode cX0_force 40 = .ok (.aload_n 0, 1) := dk_42 (dk_at dksX0_force_1 18 rfl rfl)
theorem dX0_force_41 : decode cX0_force 41 = .ok (.getfield 43, 3) := dk_180 0 43 (dk_at dksX0_force_1 19 rfl rfl)
theorem dX0_force_44 : decode cX0_force 44 = .ok (.iload_n 1, 1) := dk_27 (dk_at dksX0_force_1 22 rfl rfl)
theorem dX0_force_45 : decode cX0_force 45 = .ok (.putfield 240, 3) := dk_181 0 240 (dk_at dksX0_force_2 0 rfl rfl)
theorem dX0_force_48 : decode cX0_force 48 = .ok (.aload_n 0, 1) := dk_42 (dk_at dksX0_force_2 3 rfl rfl)
theorem dX0_force_49 : decode cX0_force 49 = .ok (.iload_n 2, 1) := dk_28 (dk_at dksX0_force_2 4 rfl rfl)
theorem dX0_force_50 : decode cX0_force 50 = .ok (.invokevirtual 109, 3) := dk_182 0 109 (dk_at dksX0_force_2 5 rfl rfl)
theorem dX0_force_53 : decode cX0_force 53 = .ok (.ireturn, 1) := dk_172 (dk_at dksX0_force_2 8 rfl rfl)
abbrev cX0_asks : ByteArray := prog_1_method_43_code
def yX0_asks : MethodName := ⟨RX0, "asks", "(III)I"⟩
def dkwX0_asks_6 : List UInt8 := [167, 0, 4, 3, 172, 2, 172]
abbrev dktX0_asks_6 : List UInt8 := dkwX0_asks_6 ++ []
def dkwX0_asks_5 : List UInt8 := [182, 1, 22, 172, 42, 25, 4, 27, 28, 25, 4, 180, 0, 138, 27, 46, 182, 1, 36, 153, 0, 7, 4]
abbrev dktX0_asks_5 : List UInt8 := dkwX0_asks_5 ++ dktX0_asks_6
def dkwX0_asks_4 : List UInt8 := [42, 25, 4, 27, 28, 42, 25, 4, 27, 25, 4, 180, 0, 138, 27, 46, 182, 0, 158, 17, 39, 16, 108]
abbrev dktX0_asks_4 : List UInt8 := dkwX0_asks_4 ++ dktX0_asks_5
def dkwX0_asks_3 : List UInt8 := [42, 27, 28, 182, 1, 29, 172, 42, 25, 4, 27, 28, 182, 1, 32, 153, 0, 7, 4, 167, 0, 4, 3, 172]
abbrev dktX0_asks_3 : List UInt8 := dkwX0_asks_3 ++ dktX0_asks_4
def dkwX0_asks_2 : List UInt8 := [170, 0, 0, 0, 104, 0, 0, 0, 0, 0, 0, 0, 3, 0, 0, 0, 29, 0, 0, 0, 36, 0, 0, 0, 53, 0, 0, 0, 80]
abbrev dktX0_asks_2 : List UInt8 := dkwX0_asks_2 ++ dktX0_asks_3
def dkwX0_asks_1 : List UInt8 := [184, 1, 26, 154, 0, 5, 2, 172, 42, 182, 0, 132, 58, 4, 29]
abbrev dktX0_asks_1 : List UInt8 := dkwX0_asks_1 ++ dktX0_asks_2
def dkwX0_asks_0 : List UInt8 := [42, 27, 182, 0, 152, 153, 0, 25, 29, 5, 162, 0, 13, 28, 184, 0, 162, 153, 0, 13, 167, 0, 12, 28]
abbrev dktX0_asks_0 : List UInt8 := dkwX0_asks_0 ++ dktX0_asks_1
theorem dksX0_asks_0 : cX0_asks.data.toList.drop 0 = dktX0_asks_0 := by decide +kernel
theorem dksX0_asks_1 : cX0_asks.data.toList.drop 24 = dktX0_asks_1 := dk_seg dksX0_asks_0 24 rfl rfl
theorem dksX0_asks_2 : cX0_asks.data.toList.drop 39 = dktX0_asks_2 := dk_seg dksX0_asks_1 15 rfl rfl
theorem dksX0_asks_3 : cX0_asks.data.toList.drop 68 = dktX0_asks_3 := dk_seg dksX0_asks_2 29 rfl rfl
theorem dksX0_asks_4 : cX0_asks.data.toList.drop 92 = dktX0_asks_4 := dk_seg dksX0_asks_3 24 rfl rfl
theorem dksX0_asks_5 : cX0_asks.data.toList.drop 115 = dktX0_asks_5 := dk_seg dksX0_asks_4 23 rfl rfl
theorem dksX0_asks_6 : cX0_asks.data.toList.drop 138 = dktX0_asks_6 := dk_seg dksX0_asks_5 23 rfl rfl
theorem dX0_asks_0 : decode cX0_asks 0 = .ok (.aload_n 0, 1) := dk_42 (dk_at dksX0_asks_0 0 rfl rfl)
theorem dX0_asks_1 : decode cX0_asks 1 = .ok (.iload_n 1, 1) := dk_27 (dk_at dksX0_asks_0 1 rfl rfl)
theorem dX0_asks_2 : decode cX0_asks 2 = .ok (.invokevirtual 152, 3) := dk_182 0 152 (dk_at dksX0_asks_0 2 rfl rfl)
theorem dX0_asks_5 : decode cX0_asks 5 = .ok (.ifCond .eq 25, 3) := dk_153 0 25 (dk_at dksX0_asks_0 5 rfl rfl)
theorem dX0_asks_8 : decode cX0_asks 8 = .ok (.iload_n 3, 1) := dk_29 (dk_at dksX0_asks_0 8 rfl rfl)
theorem dX0_asks_9 : decode cX0_asks 9 = .ok (.iconst 2, 1) := dk_5 (dk_at dksX0_asks_0 9 rfl rfl)
theorem dX0_asks_10 : decode cX0_asks 10 = .ok (.if_icmp .ge 13, 3) := dk_162 0 13 (dk_at dksX0_asks_0 10 rfl rfl)
theorem dX0_asks_13 : decode cX0_asks 13 = .ok (.iload_n 2, 1) := dk_28 (dk_at dksX0_asks_0 13 rfl rfl)
theorem dX0_asks_14 : decode cX0_asks 14 = .ok (.invokestatic 162, 3) := dk_184 0 162 (dk_at dksX0_asks_0 14 rfl rfl)
theorem dX0_asks_17 : decode cX0_asks 17 = .ok (.ifCond .eq 13, 3) := dk_153 0 13 (dk_at dksX0_asks_0 17 rfl rfl)
theorem dX0_asks_20 : decode cX0_asks 20 = .ok (.goto 12, 3) := dk_167 0 12 (dk_at dksX0_asks_0 20 rfl rfl)
theorem dX0_asks_23 : decode cX0_asks 23 = .ok (.iload_n 2, 1) := dk_28 (dk_at dksX0_asks_0 23 rfl rfl)
theorem dX0_asks_24 : decode cX0_asks 24 = .ok (.invokestatic 282, 3) := dk_184 1 26 (dk_at dksX0_asks_1 0 rfl rfl)
theorem dX0_asks_27 : decode cX0_asks 27 = .ok (.ifCond .ne 5, 3) := dk_154 0 5 (dk_at dksX0_asks_1 3 rfl rfl)
theorem dX0_asks_30 : decode cX0_asks 30 = .ok (.iconst (-1), 1) := dk_2 (dk_at dksX0_asks_1 6 rfl rfl)
theorem dX0_asks_31 : decode cX0_asks 31 = .ok (.ireturn, 1) := dk_172 (dk_at dksX0_asks_1 7 rfl rfl)
theorem dX0_asks_32 : decode cX0_asks 32 = .ok (.aload_n 0, 1) := dk_42 (dk_at dksX0_asks_1 8 rfl rfl)
theorem dX0_asks_33 : decode cX0_asks 33 = .ok (.invokevirtual 132, 3) := dk_182 0 132 (dk_at dksX0_asks_1 9 rfl rfl)
theorem dX0_asks_36 : decode cX0_asks 36 = .ok (.astore 4, 2) := dk_58 4 (dk_at dksX0_asks_1 12 rfl rfl)
theorem dX0_asks_38 : decode cX0_asks 38 = .ok (.iload_n 3, 1) := dk_29 (dk_at dksX0_asks_1 14 rfl rfl)
theorem dX0_asks_39 : decode cX0_asks 39 = .ok (.tableswitch 104 0 3 #[29, 36, 53, 80], 29) := by decide +kernel
theorem dX0_asks_68 : decode cX0_asks 68 = .ok (.aload_n 0, 1) := dk_42 (dk_at dksX0_asks_3 0 rfl rfl)
theorem dX0_asks_69 : decode cX0_asks 69 = .ok (.iload_n 1, 1) := dk_27 (dk_at dksX0_asks_3 1 rfl rfl)
theorem dX0_asks_70 : decode cX0_asks 70 = .ok (.iload_n 2, 1) := dk_28 (dk_at dksX0_asks_3 2 rfl rfl)
theorem dX0_asks_71 : decode cX0_asks 71 = .ok (.invokevirtual 285, 3) := dk_182 1 29 (dk_at dksX0_asks_3 3 rfl rfl)
theorem dX0_asks_74 : decode cX0_asks 74 = .ok (.ireturn, 1) := dk_172 (dk_at dksX0_asks_3 6 rfl rfl)
theorem dX0_asks_75 : decode cX0_asks 75 = .ok (.aload_n 0, 1) := dk_42 (dk_at dksX0_asks_3 7 rfl rfl)
theorem dX0_asks_76 : decode cX0_asks 76 = .ok (.aload 4, 2) := dk_25 4 (dk_at dksX0_asks_3 8 rfl rfl)
theorem dX0_asks_78 : decode cX0_asks 78 = .ok (.iload_n 1, 1) := dk_27 (dk_at dksX0_asks_3 10 rfl rfl)
theorem dX0_asks_79 : decode cX0_asks 79 = .ok (.iload_n 2, 1) := dk_28 (dk_at dksX0_asks_3 11 rfl rfl)
theorem dX0_asks_80 : decode cX0_asks 80 = .ok (.invokevirtual 288, 3) := dk_182 1 32 (dk_at dksX0_asks_3 12 rfl rfl)
theorem dX0_asks_83 : decode cX0_asks 83 = .ok (.ifCond .eq 7, 3) := dk_153 0 7 (dk_at dksX0_asks_3 15 rfl rfl)
theorem dX0_asks_86 : decode cX0_asks 86 = .ok (.iconst 1, 1) := dk_4 (dk_at dksX0_asks_3 18 rfl rfl)
theorem dX0_asks_87 : decode cX0_asks 87 = .ok (.goto 4, 3) := dk_167 0 4 (dk_at dksX0_asks_3 19 rfl rfl)
theorem dX0_asks_90 : decode cX0_asks 90 = .ok (.iconst 0, 1) := dk_3 (dk_at dksX0_asks_3 22 rfl rfl)
theorem dX0_asks_91 : decode cX0_asks 91 = .ok (.ireturn, 1) := dk_172 (dk_at dksX0_asks_3 23 rfl rfl)
theorem dX0_asks_92 : decode cX0_asks 92 = .ok (.aload_n 0, 1) := dk_42 (dk_at dksX0_asks_4 0 rfl rfl)
theorem dX0_asks_93 : decode cX0_asks 93 = .ok (.aload 4, 2) := dk_25 4 (dk_at dksX0_asks_4 1 rfl rfl)
theorem dX0_asks_95 : decode cX0_asks 95 = .ok (.iload_n 1, 1) := dk_27 (dk_at dksX0_asks_4 3 rfl rfl)
theorem dX0_asks_96 : decode cX0_asks 96 = .ok (.iload_n 2, 1) := dk_28 (dk_at dksX0_asks_4 4 rfl rfl)
theorem dX0_asks_97 : decode cX0_asks 97 = .ok (.aload_n 0, 1) := dk_42 (dk_at dksX0_asks_4 5 rfl rfl)
theorem dX0_asks_98 : decode cX0_asks 98 = .ok (.aload 4, 2) := dk_25 4 (dk_at dksX0_asks_4 6 rfl rfl)
theorem dX0_asks_100 : decode cX0_asks 100 = .ok (.iload_n 1, 1) := dk_27 (dk_at dksX0_asks_4 8 rfl rfl)
theorem dX0_asks_101 : decode cX0_asks 101 = .ok (.aload 4, 2) := dk_25 4 (dk_at dksX0_asks_4 9 rfl rfl)
theorem dX0_asks_103 : decode cX0_asks 103 = .ok (.getfield 138, 3) := dk_180 0 138 (dk_at dksX0_asks_4 11 rfl rfl)
theorem dX0_asks_106 : decode cX0_asks 106 = .ok (.iload_n 1, 1) := dk_27 (dk_at dksX0_asks_4 14 rfl rfl)
theorem dX0_asks_107 : decode cX0_asks 107 = .ok (.iaload, 1) := dk_46 (dk_at dksX0_asks_4 15 rfl rfl)
theorem dX0_asks_108 : decode cX0_asks 108 = .ok (.invokevirtual 158, 3) := dk_182 0 158 (dk_at dksX0_asks_4 16 rfl rfl)
theorem dX0_asks_111 : decode cX0_asks 111 = .ok (.sipush 10000, 3) := dk_17 39 16 (dk_at dksX0_asks_4 19 rfl rfl)
theorem dX0_asks_114 : decode cX0_asks 114 = .ok (.idiv, 1) := dk_108 (dk_at dksX0_asks_4 22 rfl rfl)
theorem dX0_asks_115 : decode cX0_asks 115 = .ok (.invokevirtual 278, 3) := dk_182 1 22 (dk_at dksX0_asks_5 0 rfl rfl)
theorem dX0_asks_118 : decode cX0_asks 118 = .ok (.ireturn, 1) := dk_172 (dk_at dksX0_asks_5 3 rfl rfl)
theorem dX0_asks_119 : decode cX0_asks 119 = .ok (.aload_n 0, 1) := dk_42 (dk_at dksX0_asks_5 4 rfl rfl)
theorem dX0_asks_120 : decode cX0_asks 120 = .ok (.aload 4, 2) := dk_25 4 (dk_at dksX0_asks_5 5 rfl rfl)
theorem dX0_asks_122 : decode cX0_asks 122 = .ok (.iload_n 1, 1) := dk_27 (dk_at dksX0_asks_5 7 rfl rfl)
theorem dX0_asks_123 : decode cX0_asks 123 = .ok (.iload_n 2, 1) := dk_28 (dk_at dksX0_asks_5 8 rfl rfl)
theorem dX0_asks_124 : decode cX0_asks 124 = .ok (.aload 4, 2) := dk_25 4 (dk_at dksX0_asks_5 9 rfl rfl)
theorem dX0_asks_126 : decode cX0_asks 126 = .ok (.getfield 138, 3) := dk_180 0 138 (dk_at dksX0_asks_5 11 rfl rfl)
theorem dX0_asks_129 : decode cX0_asks 129 = .ok (.iload_n 1, 1) := dk_27 (dk_at dksX0_asks_5 14 rfl rfl)
theorem dX0_asks_130 : decode cX0_asks 130 = .ok (.iaload, 1) := dk_46 (dk_at dksX0_asks_5 15 rfl rfl)
theorem dX0_asks_131 : decode cX0_asks 131 = .ok (.invokevirtual 292, 3) := dk_182 1 36 (dk_at dksX0_asks_5 16 rfl rfl)
theorem dX0_asks_134 : decode cX0_asks 134 = .ok (.ifCond .eq 7, 3) := dk_153 0 7 (dk_at dksX0_asks_5 19 rfl rfl)
theorem dX0_asks_137 : decode cX0_asks 137 = .ok (.iconst 1, 1) := dk_4 (dk_at dksX0_asks_5 22 rfl rfl)
theorem dX0_asks_138 : decode cX0_asks 138 = .ok (.goto 4, 3) := dk_167 0 4 (dk_at dksX0_asks_6 0 rfl rfl)
theorem dX0_asks_141 : decode cX0_asks 141 = .ok (.iconst 0, 1) := dk_3 (dk_at dksX0_asks_6 3 rfl rfl)
theorem dX0_asks_142 : decode cX0_asks 142 = .ok (.ireturn, 1) := dk_172 (dk_at dksX0_asks_6 4 rfl rfl)
theorem dX0_asks_143 : decode cX0_asks 143 = .ok (.iconst (-1), 1) := dk_2 (dk_at dksX0_asks_6 5 rfl rfl)
theorem dX0_asks_144 : decode cX0_asks 144 = .ok (.ireturn, 1) := dk_172 (dk_at dksX0_asks_6 6 rfl rfl)
abbrev cX0_isArmy : ByteArray := prog_1_method_9_code
def yX0_isArmy : MethodName := ⟨RX0, "isArmy", "(I)Z"⟩
def dkwX0_isArmy_0 : List UInt8 := [26, 4, 16, 99, 184, 0, 26, 172]
abbrev dktX0_isArmy_0 : List UInt8 := dkwX0_isArmy_0 ++ []
theorem dksX0_isArmy_0 : cX0_isArmy.data.toList.drop 0 = dktX0_isArmy_0 := by decide +kernel
theorem dX0_isArmy_0 : decode cX0_isArmy 0 = .ok (.iload_n 0, 1) := dk_26 (dk_at dksX0_isArmy_0 0 rfl rfl)
theorem dX0_isArmy_1 : decode cX0_isArmy 1 = .ok (.iconst 1, 1) := dk_4 (dk_at dksX0_isArmy_0 1 rfl rfl)
theorem dX0_isArmy_2 : decode cX0_isArmy 2 = .ok (.bipush 99, 2) := dk_16 99 (dk_at dksX0_isArmy_0 2 rfl rfl)
theorem dX0_isArmy_4 : decode cX0_isArmy 4 = .ok (.invokestatic 26, 3) := dk_184 0 26 (dk_at dksX0_isArmy_0 4 rfl rfl)
theorem dX0_isArmy_7 : decode cX0_isArmy 7 = .ok (.ireturn, 1) := dk_172 (dk_at dksX0_isArmy_0 7 rfl rfl)
abbrev cX0_pays : ByteArray := prog_1_method_39_code
def yX0_pays : MethodName := ⟨RX0, "pays", "(II)I"⟩
def dkwX0_pays_1 : List UInt8 := [28, 46, 184, 1, 18, 172]
abbrev dktX0_pays_1 : List UInt8 := dkwX0_pays_1 ++ []
def dkwX0_pays_0 : List UInt8 := [42, 4, 42, 182, 0, 132, 27, 28, 2, 2, 2, 182, 1, 14, 3, 16, 99, 42, 180, 0, 43, 180, 0, 171]
abbrev dktX0_pays_0 : List UInt8 := dkwX0_pays_0 ++ dktX0_pays_1
theorem dksX0_pays_0 : cX0_pays.data.toList.drop 0 = dktX0_pays_0 := by decide +kernel
theorem dksX0_pays_1 : cX0_pays.data.toList.drop 24 = dktX0_pays_1 := dk_seg dksX0_pays_0 24 rfl rfl
theorem dX0_pays_0 : decode cX0_pays 0 = .ok (.aload_n 0, 1) := dk_42 (dk_at dksX0_pays_0 0 rfl rfl)
theorem dX0_pays_1 : decode cX0_pays 1 = .ok (.iconst 1, 1) := dk_4 (dk_at dksX0_pays_0 1 rfl rfl)
theorem dX0_pays_2 : decode cX0_pays 2 = .ok (.aload_n 0, 1) := dk_42 (dk_at dksX0_pays_0 2 rfl rfl)
theorem dX0_pays_3 : decode cX0_pays 3 = .ok (.invokevirtual 132, 3) := dk_182 0 132 (dk_at dksX0_pays_0 3 rfl rfl)
theorem dX0_pays_6 : decode cX0_pays 6 = .ok (.iload_n 1, 1) := dk_27 (dk_at dksX0_pays_0 6 rfl rfl)
theorem dX0_pays_7 : decode cX0_pays 7 = .ok (.iload_n 2, 1) := dk_28 (dk_at dksX0_pays_0 7 rfl rfl)
theorem dX0_pays_8 : decode cX0_pays 8 = .ok (.iconst (-1), 1) := dk_2 (dk_at dksX0_pays_0 8 rfl rfl)
theorem dX0_pays_9 : decode cX0_pays 9 = .ok (.iconst (-1), 1) := dk_2 (dk_at dksX0_pays_0 9 rfl rfl)
theorem dX0_pays_10 : decode cX0_pays 10 = .ok (.iconst (-1), 1) := dk_2 (dk_at dksX0_pays_0 10 rfl rfl)
theorem dX0_pays_11 : decode cX0_pays 11 = .ok (.invokevirtual 270, 3) := dk_182 1 14 (dk_at dksX0_pays_0 11 rfl rfl)
theorem dX0_pays_14 : decode cX0_pays 14 = .ok (.iconst 0, 1) := dk_3 (dk_at dksX0_pays_0 14 rfl rfl)
theorem dX0_pays_15 : decode cX0_pays 15 = .ok (.bipush 99, 2) := dk_16 99 (dk_at dksX0_pays_0 15 rfl rfl)
theorem dX0_pays_17 : decode cX0_pays 17 = .ok (.aload_n 0, 1) := dk_42 (dk_at dksX0_pays_0 17 rfl rfl)
theorem dX0_pays_18 : decode cX0_pays 18 = .ok (.getfield 43, 3) := dk_180 0 43 (dk_at dksX0_pays_0 18 rfl rfl)
theorem dX0_pays_21 : decode cX0_pays 21 = .ok (.getfield 171, 3) := dk_180 0 171 (dk_at dksX0_pays_0 21 rfl rfl)
theorem dX0_pays_24 : decode cX0_pays 24 = .ok (.iload_n 2, 1) := dk_28 (dk_at dksX0_pays_1 0 rfl rfl)
theorem dX0_pays_25 : decode cX0_pays 25 = .ok (.iaload, 1) := dk_46 (dk_at dksX0_pays_1 1 rfl rfl)
theorem dX0_pays_26 : decode cX0_pays 26 = .ok (.invokestatic 274, 3) := dk_184 1 18 (dk_at dksX0_pays_1 2 rfl rfl)
theorem dX0_pays_29 : decode cX0_pays 29 = .ok (.ireturn, 1) := dk_172 (dk_at dksX0_pays_1 5 rfl rfl)
abbrev cX0_says : ByteArray := prog_1_method_37_code
def yX0_says : MethodName := ⟨RX0, "says", "(ILOpenGates$Table;IIIII)J"⟩
def dkwX0_says_6 : List UInt8 := [182, 1, 2, 192, 0, 228, 27, 42, 180, 0, 84, 182, 1, 6, 173]
abbrev dktX0_says_6 : List UInt8 := dkwX0_says_6 ++ []
def dkwX0_says_5 : List UInt8 := [180, 0, 43, 180, 0, 186, 133, 80, 42, 180, 0, 43, 180, 0, 209, 42, 180, 0, 43, 180, 0, 240]
abbrev dktX0_says_5 : List UInt8 := dkwX0_says_5 ++ dktX0_says_6
def dkwX0_says_4 : List UInt8 := [25, 8, 16, 7, 21, 7, 133, 80, 25, 8, 16, 8, 44, 180, 0, 180, 133, 80, 25, 8, 16, 9, 42]
abbrev dktX0_says_4 : List UInt8 := dkwX0_says_4 ++ dktX0_says_5
def dkwX0_says_3 : List UInt8 := [133, 80, 25, 8, 7, 21, 4, 133, 80, 25, 8, 8, 21, 5, 133, 80, 25, 8, 16, 6, 21, 6, 133, 80]
abbrev dktX0_says_3 : List UInt8 := dkwX0_says_3 ++ dktX0_says_4
def dkwX0_says_2 : List UInt8 := [180, 0, 129, 29, 46, 133, 80, 25, 8, 6, 44, 180, 0, 177, 42, 180, 0, 43, 180, 0, 129, 29, 46, 46]
abbrev dktX0_says_2 : List UInt8 := dkwX0_says_2 ++ dktX0_says_3
def dkwX0_says_1 : List UInt8 := [25, 8, 3, 29, 133, 80, 25, 8, 4, 44, 180, 0, 135, 29, 46, 133, 80, 25, 8, 5, 42, 180, 0, 43]
abbrev dktX0_says_1 : List UInt8 := dkwX0_says_1 ++ dktX0_says_2
def dkwX0_says_0 : List UInt8 := [42, 180, 0, 43, 180, 0, 240, 2, 160, 0, 7, 20, 0, 252, 173, 42, 180, 0, 84, 180, 0, 254, 58, 8]
abbrev dktX0_says_0 : List UInt8 := dkwX0_says_0 ++ dktX0_says_1
theorem dksX0_says_0 : cX0_says.data.toList.drop 0 = dktX0_says_0 := by decide +kernel
theorem dksX0_says_1 : cX0_says.data.toList.drop 24 = dktX0_says_1 := dk_seg dksX0_says_0 24 rfl rfl
theorem dksX0_says_2 : cX0_says.data.toList.drop 48 = dktX0_says_2 := dk_seg dksX0_says_1 24 rfl rfl
theorem dksX0_says_3 : cX0_says.data.toList.drop 72 = dktX0_says_3 := dk_seg dksX0_says_2 24 rfl rfl
theorem dksX0_says_4 : cX0_says.data.toList.drop 96 = dktX0_says_4 := dk_seg dksX0_says_3 24 rfl rfl
theorem dksX0_says_5 : cX0_says.data.toList.drop 119 = dktX0_says_5 := dk_seg dksX0_says_4 23 rfl rfl
theorem dksX0_says_6 : cX0_says.data.toList.drop 141 = dktX0_says_6 := dk_seg dksX0_says_5 22 rfl rfl
theorem dX0_says_0 : decode cX0_says 0 = .ok (.aload_n 0, 1) := dk_42 (dk_at dksX0_says_0 0 rfl rfl)
theorem dX0_says_1 : decode cX0_says 1 = .ok (.getfield 43, 3) := dk_180 0 43 (dk_at dksX0_says_0 1 rfl rfl)
theorem dX0_says_4 : decode cX0_says 4 = .ok (.getfield 240, 3) := dk_180 0 240 (dk_at dksX0_says_0 4 rfl rfl)
theorem dX0_says_7 : decode cX0_says 7 = .ok (.iconst (-1), 1) := dk_2 (dk_at dksX0_says_0 7 rfl rfl)
theorem dX0_says_8 : decode cX0_says 8 = .ok (.if_icmp .ne 7, 3) := dk_160 0 7 (dk_at dksX0_says_0 8 rfl rfl)
theorem dX0_says_11 : decode cX0_says 11 = .ok (.ldc2_w 252, 3) := dk_20 0 252 (dk_at dksX0_says_0 11 rfl rfl)
theorem dX0_says_14 : decode cX0_says 14 = .ok (.lreturn, 1) := dk_173 (dk_at dksX0_says_0 14 rfl rfl)
theorem dX0_says_15 : decode cX0_says 15 = .ok (.aload_n 0, 1) := dk_42 (dk_at dksX0_says_0 15 rfl rfl)
theorem dX0_says_16 : decode cX0_says 16 = .ok (.getfield 84, 3) := dk_180 0 84 (dk_at dksX0_says_0 16 rfl rfl)
theorem dX0_says_19 : decode cX0_says 19 = .ok (.getfield 254, 3) := dk_180 0 254 (dk_at dksX0_says_0 19 rfl rfl)
theorem dX0_says_22 : decode cX0_says 22 = .ok (.astore 8, 2) := dk_58 8 (dk_at dksX0_says_0 22 rfl rfl)
theorem dX0_says_24 : decode cX0_says 24 = .ok (.aload 8, 2) := dk_25 8 (dk_at dksX0_says_1 0 rfl rfl)
theorem dX0_says_26 : decode cX0_says 26 = .ok (.iconst 0, 1) := dk_3 (dk_at dksX0_says_1 2 rfl rfl)
theorem dX0_says_27 : decode cX0_says 27 = .ok (.iload_n 3, 1) := dk_29 (dk_at dksX0_says_1 3 rfl rfl)
theorem dX0_says_28 : decode cX0_says 28 = .ok (.i2l, 1) := dk_133 (dk_at dksX0_says_1 4 rfl rfl)
theorem dX0_says_29 : decode cX0_says 29 = .ok (.lastore, 1) := dk_80 (dk_at dksX0_says_1 5 rfl rfl)
theorem dX0_says_30 : decode cX0_says 30 = .ok (.aload 8, 2) := dk_25 8 (dk_at dksX0_says_1 6 rfl rfl)
theorem dX0_says_32 : decode cX0_says 32 = .ok (.iconst 1, 1) := dk_4 (dk_at dksX0_says_1 8 rfl rfl)
theorem dX0_says_33 : decode cX0_says 33 = .ok (.aload_n 2, 1) := dk_44 (dk_at dksX0_says_1 9 rfl rfl)
theorem dX0_says_34 : decode cX0_says 34 = .ok (.getfield 135, 3) := dk_180 0 135 (dk_at dksX0_says_1 10 rfl rfl)
theorem dX0_says_37 : decode cX0_says 37 = .ok (.iload_n 3, 1) := dk_29 (dk_at dksX0_says_1 13 rfl rfl)
theorem dX0_says_38 : decode cX0_says 38 = .ok (.iaload, 1) := dk_46 (dk_at dksX0_says_1 14 rfl rfl)
theorem dX0_says_39 : decode cX0_says 39 = .ok (.i2l, 1) := dk_133 (dk_at dksX0_says_1 15 rfl rfl)
theorem dX0_says_40 : decode cX0_says 40 = .ok (.lastore, 1) := dk_80 (dk_at dksX0_says_1 16 rfl rfl)
theorem dX0_says_41 : decode cX0_says 41 = .ok (.aload 8, 2) := dk_25 8 (dk_at dksX0_says_1 17 rfl rfl)
theorem dX0_says_43 : decode cX0_says 43 = .ok (.iconst 2, 1) := dk_5 (dk_at dksX0_says_1 19 rfl rfl)
theorem dX0_says_44 : decode cX0_says 44 = .ok (.aload_n 0, 1) := dk_42 (dk_at dksX0_says_1 20 rfl rfl)
theorem dX0_says_45 : decode cX0_says 45 = .ok (.getfield 43, 3) := dk_180 0 43 (dk_at dksX0_says_1 21 rfl rfl)
theorem dX0_says_48 : decode cX0_says 48 = .ok (.getfield 129, 3) := dk_180 0 129 (dk_at dksX0_says_2 0 rfl rfl)
theorem dX0_says_51 : decode cX0_says 51 = .ok (.iload_n 3, 1) := dk_29 (dk_at dksX0_says_2 3 rfl rfl)
theorem dX0_says_52 : decode cX0_says 52 = .ok (.iaload, 1) := dk_46 (dk_at dksX0_says_2 4 rfl rfl)
theorem dX0_says_53 : decode cX0_says 53 = .ok (.i2l, 1) := dk_133 (dk_at dksX0_says_2 5 rfl rfl)
theorem dX0_says_54 : decode cX0_says 54 = .ok (.lastore, 1) := dk_80 (dk_at dksX0_says_2 6 rfl rfl)
theorem dX0_says_55 : decode cX0_says 55 = .ok (.aload 8, 2) := dk_25 8 (dk_at dksX0_says_2 7 rfl rfl)
theorem dX0_says_57 : decode cX0_says 57 = .ok (.iconst 3, 1) := dk_6 (dk_at dksX0_says_2 9 rfl rfl)
theorem dX0_says_58 : decode cX0_says 58 = .ok (.aload_n 2, 1) := dk_44 (dk_at dksX0_says_2 10 rfl rfl)
theorem dX0_says_59 : decode cX0_says 59 = .ok (.getfield 177, 3) := dk_180 0 177 (dk_at dksX0_says_2 11 rfl rfl)
theorem dX0_says_62 : decode cX0_says 62 = .ok (.aload_n 0, 1) := dk_42 (dk_at dksX0_says_2 14 rfl rfl)
theorem dX0_says_63 : decode cX0_says 63 = .ok (.getfield 43, 3) := dk_180 0 43 (dk_at dksX0_says_2 15 rfl rfl)
theorem dX0_says_66 : decode cX0_says 66 = .ok (.getfield 129, 3) := dk_180 0 129 (dk_at dksX0_says_2 18 rfl rfl)
theorem dX0_says_69 : decode cX0_says 69 = .ok (.iload_n 3, 1) := dk_29 (dk_at dksX0_says_2 21 rfl rfl)
theorem dX0_says_70 : decode cX0_says 70 = .ok (.iaload, 1) := dk_46 (dk_at dksX0_says_2 22 rfl rfl)
theorem dX0_says_71 : decode cX0_says 71 = .ok (.iaload, 1) := dk_46 (dk_at dksX0_says_2 23 rfl rfl)
theorem dX0_says_72 : decode cX0_says 72 = .ok (.i2l, 1) := dk_133 (dk_at dksX0_says_3 0 rfl rfl)
theorem dX0_says_73 : decode cX0_says 73 = .ok (.lastore, 1) := dk_80 (dk_at dksX0_says_3 1 rfl rfl)
theorem dX0_says_74 : decode cX0_says 74 = .ok (.aload 8, 2) := dk_25 8 (dk_at dksX0_says_3 2 rfl rfl)
theorem dX0_says_76 : decode cX0_says 76 = .ok (.iconst 4, 1) := dk_7 (dk_at dksX0_says_3 4 rfl rfl)
theorem dX0_says_77 : decode cX0_says 77 = .ok (.iload 4, 2) := dk_21 4 (dk_at dksX0_says_3 5 rfl rfl)
theorem dX0_says_79 : decode cX0_says 79 = .ok (.i2l, 1) := dk_133 (dk_at dksX0_says_3 7 rfl rfl)
theorem dX0_says_80 : decode cX0_says 80 = .ok (.lastore, 1) := dk_80 (dk_at dksX0_says_3 8 rfl rfl)
theorem dX0_says_81 : decode cX0_says 81 = .ok (.aload 8, 2) := dk_25 8 (dk_at dksX0_says_3 9 rfl rfl)
theorem dX0_says_83 : decode cX0_says 83 = .ok (.iconst 5, 1) := dk_8 (dk_at dksX0_says_3 11 rfl rfl)
theorem dX0_says_84 : decode cX0_says 84 = .ok (.iload 5, 2) := dk_21 5 (dk_at dksX0_says_3 12 rfl rfl)
theorem dX0_says_86 : decode cX0_says 86 = .ok (.i2l, 1) := dk_133 (dk_at dksX0_says_3 14 rfl rfl)
theorem dX0_says_87 : decode cX0_says 87 = .ok (.lastore, 1) := dk_80 (dk_at dksX0_says_3 15 rfl rfl)
theorem dX0_says_88 : decode cX0_says 88 = .ok (.aload 8, 2) := dk_25 8 (dk_at dksX0_says_3 16 rfl rfl)
theorem dX0_says_90 : decode cX0_says 90 = .ok (.bipush 6, 2) := dk_16 6 (dk_at dksX0_says_3 18 rfl rfl)
theorem dX0_says_92 : decode cX0_says 92 = .ok (.iload 6, 2) := dk_21 6 (dk_at dksX0_says_3 20 rfl rfl)
theorem dX0_says_94 : decode cX0_says 94 = .ok (.i2l, 1) := dk_133 (dk_at dksX0_says_3 22 rfl rfl)
theorem dX0_says_95 : decode cX0_says 95 = .ok (.lastore, 1) := dk_80 (dk_at dksX0_says_3 23 rfl rfl)
theorem dX0_says_96 : decode cX0_says 96 = .ok (.aload 8, 2) := dk_25 8 (dk_at dksX0_says_4 0 rfl rfl)
theorem dX0_says_98 : decode cX0_says 98 = .ok (.bipush 7, 2) := dk_16 7 (dk_at dksX0_says_4 2 rfl rfl)
theorem dX0_says_100 : decode cX0_says 100 = .ok (.iload 7, 2) := dk_21 7 (dk_at dksX0_says_4 4 rfl rfl)
theorem dX0_says_102 : decode cX0_says 102 = .ok (.i2l, 1) := dk_133 (dk_at dksX0_says_4 6 rfl rfl)
theorem dX0_says_103 : decode cX0_says 103 = .ok (.lastore, 1) := dk_80 (dk_at dksX0_says_4 7 rfl rfl)
theorem dX0_says_104 : decode cX0_says 104 = .ok (.aload 8, 2) := dk_25 8 (dk_at dksX0_says_4 8 rfl rfl)
theorem dX0_says_106 : decode cX0_says 106 = .ok (.bipush 8, 2) := dk_16 8 (dk_at dksX0_says_4 10 rfl rfl)
theorem dX0_says_108 : decode cX0_says 108 = .ok (.aload_n 2, 1) := dk_44 (dk_at dksX0_says_4 12 rfl rfl)
theorem dX0_says_109 : decode cX0_says 109 = .ok (.getfield 180, 3) := dk_180 0 180 (dk_at dksX0_says_4 13 rfl rfl)
theorem dX0_says_112 : decode cX0_says 112 = .ok (.i2l, 1) := dk_133 (dk_at dksX0_says_4 16 rfl rfl)
theorem dX0_says_113 : decode cX0_says 113 = .ok (.lastore, 1) := dk_80 (dk_at dksX0_says_4 17 rfl rfl)
theorem dX0_says_114 : decode cX0_says 114 = .ok (.aload 8, 2) := dk_25 8 (dk_at dksX0_says_4 18 rfl rfl)
theorem dX0_says_116 : decode cX0_says 116 = .ok (.bipush 9, 2) := dk_16 9 (dk_at dksX0_says_4 20 rfl rfl)
theorem dX0_says_118 : decode cX0_says 118 = .ok (.aload_n 0, 1) := dk_42 (dk_at dksX0_says_4 22 rfl rfl)
theorem dX0_says_119 : decode cX0_says 119 = .ok (.getfield 43, 3) := dk_180 0 43 (dk_at dksX0_says_5 0 rfl rfl)
theorem dX0_says_122 : decode cX0_says 122 = .ok (.getfield 186, 3) := dk_180 0 186 (dk_at dksX0_says_5 3 rfl rfl)
theorem dX0_says_125 : decode cX0_says 125 = .ok (.i2l, 1) := dk_133 (dk_at dksX0_says_5 6 rfl rfl)
theorem dX0_says_126 : decode cX0_says 126 = .ok (.lastore, 1) := dk_80 (dk_at dksX0_says_5 7 rfl rfl)
theorem dX0_says_127 : decode cX0_says 127 = .ok (.aload_n 0, 1) := dk_42 (dk_at dksX0_says_5 8 rfl rfl)
theorem dX0_says_128 : decode cX0_says 128 = .ok (.getfield 43, 3) := dk_180 0 43 (dk_at dksX0_says_5 9 rfl rfl)
theorem dX0_says_131 : decode cX0_says 131 = .ok (.getfield 209, 3) := dk_180 0 209 (dk_at dksX0_says_5 12 rfl rfl)
theorem dX0_says_134 : decode cX0_says 134 = .ok (.aload_n 0, 1) := dk_42 (dk_at dksX0_says_5 15 rfl rfl)
theorem dX0_says_135 : decode cX0_says 135 = .ok (.getfield 43, 3) := dk_180 0 43 (dk_at dksX0_says_5 16 rfl rfl)
theorem dX0_says_138 : decode cX0_says 138 = .ok (.getfield 240, 3) := dk_180 0 240 (dk_at dksX0_says_5 19 rfl rfl)
theorem dX0_says_141 : decode cX0_says 141 = .ok (.invokevirtual 258, 3) := dk_182 1 2 (dk_at dksX0_says_6 0 rfl rfl)
theorem dX0_says_144 : decode cX0_says 144 = .ok (.checkcast 228, 3) := dk_192 0 228 (dk_at dksX0_says_6 3 rfl rfl)
theorem dX0_says_147 : decode cX0_says 147 = .ok (.iload_n 1, 1) := dk_27 (dk_at dksX0_says_6 6 rfl rfl)
theorem dX0_says_148 : decode cX0_says 148 = .ok (.aload_n 0, 1) := dk_42 (dk_at dksX0_says_6 7 rfl rfl)
theorem dX0_says_149 : decode cX0_says 149 = .ok (.getfield 84, 3) := dk_180 0 84 (dk_at dksX0_says_6 8 rfl rfl)
theorem dX0_says_152 : decode cX0_says 152 = .ok (.invokevirtual 262, 3) := dk_182 1 6 (dk_at dksX0_says_6 11 rfl rfl)
theorem dX0_says_155 : decode cX0_says 155 = .ok (.lreturn, 1) := dk_173 (dk_at dksX0_says_6 14 rfl rfl)
abbrev cX0_or : ByteArray := prog_1_method_38_code
def yX0_or : MethodName := ⟨RX0, "or", "(JIII)I"⟩
def dkwX0_or_0 : List UInt8 := [30, 20, 0, 252, 148, 154, 0, 8, 21, 4, 167, 0, 9, 30, 28, 29, 184, 1, 10, 172]
abbrev dktX0_or_0 : List UInt8 := dkwX0_or_0 ++ []
theorem dksX0_or_0 : cX0_or.data.toList.drop 0 = dktX0_or_0 := by decide +kernel
theorem dX0_or_0 : decode cX0_or 0 = .ok (.lload_n 0, 1) := dk_30 (dk_at dksX0_or_0 0 rfl rfl)
theorem dX0_or_1 : decode cX0_or 1 = .ok (.ldc2_w 252, 3) := dk_20 0 252 (dk_at dksX0_or_0 1 rfl rfl)
theorem dX0_or_4 : decode cX0_or 4 = .ok (.lcmp, 1) := dk_148 (dk_at dksX0_or_0 4 rfl rfl)
theorem dX0_or_5 : decode cX0_or 5 = .ok (.ifCond .ne 8, 3) := dk_154 0 8 (dk_at dksX0_or_0 5 rfl rfl)
theorem dX0_or_8 : decode cX0_or 8 = .ok (.iload 4, 2) := dk_21 4 (dk_at dksX0_or_0 8 rfl rfl)
theorem dX0_or_10 : decode cX0_or 10 = .ok (.goto 9, 3) := dk_167 0 9 (dk_at dksX0_or_0 10 rfl rfl)
theorem dX0_or_13 : decode cX0_or 13 = .ok (.lload_n 0, 1) := dk_30 (dk_at dksX0_or_0 13 rfl rfl)
theorem dX0_or_14 : decode cX0_or 14 = .ok (.iload_n 2, 1) := dk_28 (dk_at dksX0_or_0 14 rfl rfl)
theorem dX0_or_15 : decode cX0_or 15 = .ok (.iload_n 3, 1) := dk_29 (dk_at dksX0_or_0 15 rfl rfl)
theorem dX0_or_16 : decode cX0_or 16 = .ok (.invokestatic 266, 3) := dk_184 1 10 (dk_at dksX0_or_0 16 rfl rfl)
theorem dX0_or_19 : decode cX0_or 19 = .ok (.ireturn, 1) := dk_172 (dk_at dksX0_or_0 19 rfl rfl)
abbrev cX0_near : ByteArray := prog_1_method_6_code
def yX0_near : MethodName := ⟨RX0, "near", "(JII)I"⟩
def dkwX0_near_0 : List UInt8 := [28, 133, 29, 133, 30, 184, 0, 17, 184, 0, 23, 136, 172]
abbrev dktX0_near_0 : List UInt8 := dkwX0_near_0 ++ []
theorem dksX0_near_0 : cX0_near.data.toList.drop 0 = dktX0_near_0 := by decide +kernel
theorem dX0_near_0 : decode cX0_near 0 = .ok (.iload_n 2, 1) := dk_28 (dk_at dksX0_near_0 0 rfl rfl)
theorem dX0_near_1 : decode cX0_near 1 = .ok (.i2l, 1) := dk_133 (dk_at dksX0_near_0 1 rfl rfl)
theorem dX0_near_2 : decode cX0_near 2 = .ok (.iload_n 3, 1) := dk_29 (dk_at dksX0_near_0 2 rfl rfl)
theorem dX0_near_3 : decode cX0_near 3 = .ok (.i2l, 1) := dk_133 (dk_at dksX0_near_0 3 rfl rfl)
theorem dX0_near_4 : decode cX0_near 4 = .ok (.lload_n 0, 1) := dk_30 (dk_at dksX0_near_0 4 rfl rfl)
theorem dX0_near_5 : decode cX0_near 5 = .ok (.invokestatic 17, 3) := dk_184 0 17 (dk_at dksX0_near_0 5 rfl rfl)
theorem dX0_near_8 : decode cX0_near 8 = .ok (.invokestatic 23, 3) := dk_184 0 23 (dk_at dksX0_near_0 8 rfl rfl)
theorem dX0_near_11 : decode cX0_near 11 = .ok (.l2i, 1) := dk_136 (dk_at dksX0_near_0 11 rfl rfl)
theorem dX0_near_12 : decode cX0_near 12 = .ok (.ireturn, 1) := dk_172 (dk_at dksX0_near_0 12 rfl rfl)
abbrev cX0_isBarred : ByteArray := prog_1_method_40_code
def yX0_isBarred : MethodName := ⟨RX0, "isBarred", "(LOpenGates$Table;II)Z"⟩
def dkwX0_isBarred_0 : List UInt8 := [42, 6, 43, 28, 29, 2, 2, 2, 182, 1, 14, 20, 0, 252, 148, 153, 0, 7, 4, 167, 0, 4, 3, 172]
abbrev dktX0_isBarred_0 : List UInt8 := dkwX0_isBarred_0 ++ []
theorem dksX0_isBarred_0 : cX0_isBarred.data.toList.drop 0 = dktX0_isBarred_0 := by decide +kernel
theorem dX0_isBarred_0 : decode cX0_isBarred 0 = .ok (.aload_n 0, 1) := dk_42 (dk_at dksX0_isBarred_0 0 rfl rfl)
theorem dX0_isBarred_1 : decode cX0_isBarred 1 = .ok (.iconst 3, 1) := dk_6 (dk_at dksX0_isBarred_0 1 rfl rfl)
theorem dX0_isBarred_2 : decode cX0_isBarred 2 = .ok (.aload_n 1, 1) := dk_43 (dk_at dksX0_isBarred_0 2 rfl rfl)
theorem dX0_isBarred_3 : decode cX0_isBarred 3 = .ok (.iload_n 2, 1) := dk_28 (dk_at dksX0_isBarred_0 3 rfl rfl)
theorem dX0_isBarred_4 : decode cX0_isBarred 4 = .ok (.iload_n 3, 1) := dk_29 (dk_at dksX0_isBarred_0 4 rfl rfl)
theorem dX0_isBarred_5 : decode cX0_isBarred 5 = .ok (.iconst (-1), 1) := dk_2 (dk_at dksX0_isBarred_0 5 rfl rfl)
theorem dX0_isBarred_6 : decode cX0_isBarred 6 = .ok (.iconst (-1), 1) := dk_2 (dk_at dksX0_isBarred_0 6 rfl rfl)
theorem dX0_isBarred_7 : decode cX0_isBarred 7 = .ok (.iconst (-1), 1) := dk_2 (dk_at dksX0_isBarred_0 7 rfl rfl)
theorem dX0_isBarred_8 : decode cX0_isBarred 8 = .ok (.invokevirtual 270, 3) := dk_182 1 14 (dk_at dksX0_isBarred_0 8 rfl rfl)
theorem dX0_isBarred_11 : decode cX0_isBarred 11 = .ok (.ldc2_w 252, 3) := dk_20 0 252 (dk_at dksX0_isBarred_0 11 rfl rfl)
theorem dX0_isBarred_14 : decode cX0_isBarred 14 = .ok (.lcmp, 1) := dk_148 (dk_at dksX0_isBarred_0 14 rfl rfl)
theorem dX0_isBarred_15 : decode cX0_isBarred 15 = .ok (.ifCond .eq 7, 3) := dk_153 0 7 (dk_at dksX0_isBarred_0 15 rfl rfl)
theorem dX0_isBarred_18 : decode cX0_isBarred 18 = .ok (.iconst 1, 1) := dk_4 (dk_at dksX0_isBarred_0 18 rfl rfl)
theorem dX0_isBarred_19 : decode cX0_isBarred 19 = .ok (.goto 4, 3) := dk_167 0 4 (dk_at dksX0_isBarred_0 19 rfl rfl)
theorem dX0_isBarred_22 : decode cX0_isBarred 22 = .ok (.iconst 0, 1) := dk_3 (dk_at dksX0_isBarred_0 22 rfl rfl)
theorem dX0_isBarred_23 : decode cX0_isBarred 23 = .ok (.ireturn, 1) := dk_172 (dk_at dksX0_isBarred_0 23 rfl rfl)
abbrev cX0_needed : ByteArray := prog_1_method_41_code
def yX0_needed : MethodName := ⟨RX0, "needed", "(LOpenGates$Table;III)I"⟩
def dkwX0_needed_0 : List UInt8 := [42, 3, 43, 28, 2, 29, 21, 4, 2, 182, 1, 14, 3, 16, 100, 16, 50, 184, 1, 18, 172]
abbrev dktX0_needed_0 : List UInt8 := dkwX0_needed_0 ++ []
theorem dksX0_needed_0 : cX0_needed.data.toList.drop 0 = dktX0_needed_0 := by decide +kernel
theorem dX0_needed_0 : decode cX0_needed 0 = .ok (.aload_n 0, 1) := dk_42 (dk_at dksX0_needed_0 0 rfl rfl)
theorem dX0_needed_1 : decode cX0_needed 1 = .ok (.iconst 0, 1) := dk_3 (dk_at dksX0_needed_0 1 rfl rfl)
theorem dX0_needed_2 : decode cX0_needed 2 = .ok (.aload_n 1, 1) := dk_43 (dk_at dksX0_needed_0 2 rfl rfl)
theorem dX0_needed_3 : decode cX0_needed 3 = .ok (.iload_n 2, 1) := dk_28 (dk_at dksX0_needed_0 3 rfl rfl)
theorem dX0_needed_4 : decode cX0_needed 4 = .ok (.iconst (-1), 1) := dk_2 (dk_at dksX0_needed_0 4 rfl rfl)
theorem dX0_needed_5 : decode cX0_needed 5 = .ok (.iload_n 3, 1) := dk_29 (dk_at dksX0_needed_0 5 rfl rfl)
theorem dX0_needed_6 : decode cX0_needed 6 = .ok (.iload 4, 2) := dk_21 4 (dk_at dksX0_needed_0 6 rfl rfl)
theorem dX0_needed_8 : decode cX0_needed 8 = .ok (.iconst (-1), 1) := dk_2 (dk_at dksX0_needed_0 8 rfl rfl)
theorem dX0_needed_9 : decode cX0_needed 9 = .ok (.invokevirtual 270, 3) := dk_182 1 14 (dk_at dksX0_needed_0 9 rfl rfl)
theorem dX0_needed_12 : decode cX0_needed 12 = .ok (.iconst 0, 1) := dk_3 (dk_at dksX0_needed_0 12 rfl rfl)
theorem dX0_needed_13 : decode cX0_needed 13 = .ok (.bipush 100, 2) := dk_16 100 (dk_at dksX0_needed_0 13 rfl rfl)
theorem dX0_needed_15 : decode cX0_needed 15 = .ok (.bipush 50, 2) := dk_16 50 (dk_at dksX0_needed_0 15 rfl rfl)
theorem dX0_needed_17 : decode cX0_needed 17 = .ok (.invokestatic 274, 3) := dk_184 1 18 (dk_at dksX0_needed_0 17 rfl rfl)
theorem dX0_needed_20 : decode cX0_needed 20 = .ok (.ireturn, 1) := dk_172 (dk_at dksX0_needed_0 20 rfl rfl)
abbrev cX0_turns : ByteArray := prog_1_method_42_code
def yX0_turns : MethodName := ⟨RX0, "turns", "(LOpenGates$Table;III)Z"⟩
def dkwX0_turns_1 : List UInt8 := [182, 1, 22, 161, 0, 7, 4, 167, 0, 4, 3, 172]
abbrev dktX0_turns_1 : List UInt8 := dkwX0_turns_1 ++ []
def dkwX0_turns_0 : List UInt8 := [42, 43, 28, 21, 4, 182, 0, 158, 17, 39, 16, 108, 54, 5, 21, 5, 42, 43, 28, 29, 21, 5]
abbrev dktX0_turns_0 : List UInt8 := dkwX0_turns_0 ++ dktX0_turns_1
theorem dksX0_turns_0 : cX0_turns.data.toList.drop 0 = dktX0_turns_0 := by decide +kernel
theorem dksX0_turns_1 : cX0_turns.data.toList.drop 22 = dktX0_turns_1 := dk_seg dksX0_turns_0 22 rfl rfl
theorem dX0_turns_0 : decode cX0_turns 0 = .ok (.aload_n 0, 1) := dk_42 (dk_at dksX0_turns_0 0 rfl rfl)
theorem dX0_turns_1 : decode cX0_turns 1 = .ok (.aload_n 1, 1) := dk_43 (dk_at dksX0_turns_0 1 rfl rfl)
theorem dX0_turns_2 : decode cX0_turns 2 = .ok (.iload_n 2, 1) := dk_28 (dk_at dksX0_turns_0 2 rfl rfl)
theorem dX0_turns_3 : decode cX0_turns 3 = .ok (.iload 4, 2) := dk_21 4 (dk_at dksX0_turns_0 3 rfl rfl)
theorem dX0_turns_5 : decode cX0_turns 5 = .ok (.invokevirtual 158, 3) := dk_182 0 158 (dk_at dksX0_turns_0 5 rfl rfl)
theorem dX0_turns_8 : decode cX0_turns 8 = .ok (.sipush 10000, 3) := dk_17 39 16 (dk_at dksX0_turns_0 8 rfl rfl)
theorem dX0_turns_11 : decode cX0_turns 11 = .ok (.idiv, 1) := dk_108 (dk_at dksX0_turns_0 11 rfl rfl)
theorem dX0_turns_12 : decode cX0_turns 12 = .ok (.istore 5, 2) := dk_54 5 (dk_at dksX0_turns_0 12 rfl rfl)
theorem dX0_turns_14 : decode cX0_turns 14 = .ok (.iload 5, 2) := dk_21 5 (dk_at dksX0_turns_0 14 rfl rfl)
theorem dX0_turns_16 : decode cX0_turns 16 = .ok (.aload_n 0, 1) := dk_42 (dk_at dksX0_turns_0 16 rfl rfl)
theorem dX0_turns_17 : decode cX0_turns 17 = .ok (.aload_n 1, 1) := dk_43 (dk_at dksX0_turns_0 17 rfl rfl)
theorem dX0_turns_18 : decode cX0_turns 18 = .ok (.iload_n 2, 1) := dk_28 (dk_at dksX0_turns_0 18 rfl rfl)
theorem dX0_turns_19 : decode cX0_turns 19 = .ok (.iload_n 3, 1) := dk_29 (dk_at dksX0_turns_0 19 rfl rfl)
theorem dX0_turns_20 : decode cX0_turns 20 = .ok (.iload 5, 2) := dk_21 5 (dk_at dksX0_turns_0 20 rfl rfl)
theorem dX0_turns_22 : decode cX0_turns 22 = .ok (.invokevirtual 278, 3) := dk_182 1 22 (dk_at dksX0_turns_1 0 rfl rfl)
theorem dX0_turns_25 : decode cX0_turns 25 = .ok (.if_icmp .lt 7, 3) := dk_161 0 7 (dk_at dksX0_turns_1 3 rfl rfl)
theorem dX0_turns_28 : decode cX0_turns 28 = .ok (.iconst 1, 1) := dk_4 (dk_at dksX0_turns_1 6 rfl rfl)
theorem dX0_turns_29 : decode cX0_turns 29 = .ok (.goto 4, 3) := dk_167 0 4 (dk_at dksX0_turns_1 7 rfl rfl)
theorem dX0_turns_32 : decode cX0_turns 32 = .ok (.iconst 0, 1) := dk_3 (dk_at dksX0_turns_1 10 rfl rfl)
theorem dX0_turns_33 : decode cX0_turns 33 = .ok (.ireturn, 1) := dk_172 (dk_at dksX0_turns_1 11 rfl rfl)
abbrev cX0_show : ByteArray := prog_1_method_52_code
def yX0_show : MethodName := ⟨RX0, "show", "(II)I"⟩
def dkwX0_show_0 : List UInt8 := [42, 42, 27, 28, 182, 1, 56, 182, 1, 59, 172]
abbrev dktX0_show_0 : List UInt8 := dkwX0_show_0 ++ []
theorem dksX0_show_0 : cX0_show.data.toList.drop 0 = dktX0_show_0 := by decide +kernel
theorem dX0_show_0 : decode cX0_show 0 = .ok (.aload_n 0, 1) := dk_42 (dk_at dksX0_show_0 0 rfl rfl)
theorem dX0_show_1 : decode cX0_show 1 = .ok (.aload_n 0, 1) := dk_42 (dk_at dksX0_show_0 1 rfl rfl)
theorem dX0_show_2 : decode cX0_show 2 = .ok (.iload_n 1, 1) := dk_27 (dk_at dksX0_show_0 2 rfl rfl)
theorem dX0_show_3 : decode cX0_show 3 = .ok (.iload_n 2, 1) := dk_28 (dk_at dksX0_show_0 3 rfl rfl)
theorem dX0_show_4 : decode cX0_show 4 = .ok (.invokevirtual 312, 3) := dk_182 1 56 (dk_at dksX0_show_0 4 rfl rfl)
theorem dX0_show_7 : decode cX0_show 7 = .ok (.invokevirtual 315, 3) := dk_182 1 59 (dk_at dksX0_show_0 7 rfl rfl)
theorem dX0_show_10 : decode cX0_show 10 = .ok (.ireturn, 1) := dk_172 (dk_at dksX0_show_0 10 rfl rfl)
abbrev cX0_showsKept : ByteArray := prog_1_method_47_code
def yX0_showsKept : MethodName := ⟨RX0, "showsKept", "(II)I"⟩
def dkwX0_showsKept_2 : List UInt8 := [182, 1, 29, 62, 42, 182, 0, 132, 27, 28, 182, 1, 51, 29, 172]
abbrev dktX0_showsKept_2 : List UInt8 := dkwX0_showsKept_2 ++ []
def dkwX0_showsKept_1 : List UInt8 := [182, 0, 132, 27, 28, 182, 1, 45, 154, 0, 6, 16, 253, 172, 42, 3, 182, 1, 48, 42, 27, 28]
abbrev dktX0_showsKept_1 : List UInt8 := dkwX0_showsKept_1 ++ dktX0_showsKept_2
def dkwX0_showsKept_0 : List UInt8 := [28, 184, 0, 162, 154, 0, 5, 2, 172, 42, 27, 182, 0, 152, 154, 0, 6, 16, 254, 172, 42, 42]
abbrev dktX0_showsKept_0 : List UInt8 := dkwX0_showsKept_0 ++ dktX0_showsKept_1
theorem dksX0_showsKept_0 : cX0_showsKept.data.toList.drop 0 = dktX0_showsKept_0 := by decide +kernel
theorem dksX0_showsKept_1 : cX0_showsKept.data.toList.drop 22 = dktX0_showsKept_1 := dk_seg dksX0_showsKept_0 22 rfl rfl
theorem dksX0_showsKept_2 : cX0_showsKept.data.toList.drop 44 = dktX0_showsKept_2 := dk_seg dksX0_showsKept_1 22 rfl rfl
theorem dX0_showsKept_0 : decode cX0_showsKept 0 = .ok (.iload_n 2, 1) := dk_28 (dk_at dksX0_showsKept_0 0 rfl rfl)
theorem dX0_showsKept_1 : decode cX0_showsKept 1 = .ok (.invokestatic 162, 3) := dk_184 0 162 (dk_at dksX0_showsKept_0 1 rfl rfl)
theorem dX0_showsKept_4 : decode cX0_showsKept 4 = .ok (.ifCond .ne 5, 3) := dk_154 0 5 (dk_at dksX0_showsKept_0 4 rfl rfl)
theorem dX0_showsKept_7 : decode cX0_showsKept 7 = .ok (.iconst (-1), 1) := dk_2 (dk_at dksX0_showsKept_0 7 rfl rfl)
theorem dX0_showsKept_8 : decode cX0_showsKept 8 = .ok (.ireturn, 1) := dk_172 (dk_at dksX0_showsKept_0 8 rfl rfl)
theorem dX0_showsKept_9 : decode cX0_showsKept 9 = .ok (.aload_n 0, 1) := dk_42 (dk_at dksX0_showsKept_0 9 rfl rfl)
theorem dX0_showsKept_10 : decode cX0_showsKept 10 = .ok (.iload_n 1, 1) := dk_27 (dk_at dksX0_showsKept_0 10 rfl rfl)
theorem dX0_showsKept_11 : decode cX0_showsKept 11 = .ok (.invokevirtual 152, 3) := dk_182 0 152 (dk_at dksX0_showsKept_0 11 rfl rfl)
theorem dX0_showsKept_14 : decode cX0_showsKept 14 = .ok (.ifCond .ne 6, 3) := dk_154 0 6 (dk_at dksX0_showsKept_0 14 rfl rfl)
theorem dX0_showsKept_17 : decode cX0_showsKept 17 = .ok (.bipush (-2), 2) := dk_16 254 (dk_at dksX0_showsKept_0 17 rfl rfl)
theorem dX0_showsKept_19 : decode cX0_showsKept 19 = .ok (.ireturn, 1) := dk_172 (dk_at dksX0_showsKept_0 19 rfl rfl)
theorem dX0_showsKept_20 : decode cX0_showsKept 20 = .ok (.aload_n 0, 1) := dk_42 (dk_at dksX0_showsKept_0 20 rfl rfl)
theorem dX0_showsKept_21 : decode cX0_showsKept 21 = .ok (.aload_n 0, 1) := dk_42 (dk_at dksX0_showsKept_0 21 rfl rfl)
theorem dX0_showsKept_22 : decode cX0_showsKept 22 = .ok (.invokevirtual 132, 3) := dk_182 0 132 (dk_at dksX0_showsKept_1 0 rfl rfl)
theorem dX0_showsKept_25 : decode cX0_showsKept 25 = .ok (.iload_n 1, 1) := dk_27 (dk_at dksX0_showsKept_1 3 rfl rfl)
theorem dX0_showsKept_26 : decode cX0_showsKept 26 = .ok (.iload_n 2, 1) := dk_28 (dk_at dksX0_showsKept_1 4 rfl rfl)
theorem dX0_showsKept_27 : decode cX0_showsKept 27 = .ok (.invokevirtual 301, 3) := dk_182 1 45 (dk_at dksX0_showsKept_1 5 rfl rfl)
theorem dX0_showsKept_30 : decode cX0_showsKept 30 = .ok (.ifCond .ne 6, 3) := dk_154 0 6 (dk_at dksX0_showsKept_1 8 rfl rfl)
theorem dX0_showsKept_33 : decode cX0_showsKept 33 = .ok (.bipush (-3), 2) := dk_16 253 (dk_at dksX0_showsKept_1 11 rfl rfl)
theorem dX0_showsKept_35 : decode cX0_showsKept 35 = .ok (.ireturn, 1) := dk_172 (dk_at dksX0_showsKept_1 13 rfl rfl)
theorem dX0_showsKept_36 : decode cX0_showsKept 36 = .ok (.aload_n 0, 1) := dk_42 (dk_at dksX0_showsKept_1 14 rfl rfl)
theorem dX0_showsKept_37 : decode cX0_showsKept 37 = .ok (.iconst 0, 1) := dk_3 (dk_at dksX0_showsKept_1 15 rfl rfl)
theorem dX0_showsKept_38 : decode cX0_showsKept 38 = .ok (.invokevirtual 304, 3) := dk_182 1 48 (dk_at dksX0_showsKept_1 16 rfl rfl)
theorem dX0_showsKept_41 : decode cX0_showsKept 41 = .ok (.aload_n 0, 1) := dk_42 (dk_at dksX0_showsKept_1 19 rfl rfl)
theorem dX0_showsKept_42 : decode cX0_showsKept 42 = .ok (.iload_n 1, 1) := dk_27 (dk_at dksX0_showsKept_1 20 rfl rfl)
theorem dX0_showsKept_43 : decode cX0_showsKept 43 = .ok (.iload_n 2, 1) := dk_28 (dk_at dksX0_showsKept_1 21 rfl rfl)
theorem dX0_showsKept_44 : decode cX0_showsKept 44 = .ok (.invokevirtual 285, 3) := dk_182 1 29 (dk_at dksX0_showsKept_2 0 rfl rfl)
theorem dX0_showsKept_47 : decode cX0_showsKept 47 = .ok (.istore_n 3, 1) := dk_62 (dk_at dksX0_showsKept_2 3 rfl rfl)
theorem dX0_showsKept_48 : decode cX0_showsKept 48 = .ok (.aload_n 0, 1) := dk_42 (dk_at dksX0_showsKept_2 4 rfl rfl)
theorem dX0_showsKept_49 : decode cX0_showsKept 49 = .ok (.invokevirtual 132, 3) := dk_182 0 132 (dk_at dksX0_showsKept_2 5 rfl rfl)
theorem dX0_showsKept_52 : decode cX0_showsKept 52 = .ok (.iload_n 1, 1) := dk_27 (dk_at dksX0_showsKept_2 8 rfl rfl)
theorem dX0_showsKept_53 : decode cX0_showsKept 53 = .ok (.iload_n 2, 1) := dk_28 (dk_at dksX0_showsKept_2 9 rfl rfl)
theorem dX0_showsKept_54 : decode cX0_showsKept 54 = .ok (.invokevirtual 307, 3) := dk_182 1 51 (dk_at dksX0_showsKept_2 10 rfl rfl)
theorem dX0_showsKept_57 : decode cX0_showsKept 57 = .ok (.iload_n 3, 1) := dk_29 (dk_at dksX0_showsKept_2 13 rfl rfl)
theorem dX0_showsKept_58 : decode cX0_showsKept 58 = .ok (.ireturn, 1) := dk_172 (dk_at dksX0_showsKept_2 14 rfl rfl)
abbrev cX0_canShow : ByteArray := prog_1_method_44_code
def yX0_canShow : MethodName := ⟨RX0, "canShow", "(LOpenGates$Table;II)Z"⟩
def dkwX0_canShow_1 : List UInt8 := [29, 182, 1, 32, 154, 0, 7, 4, 167, 0, 4, 3, 172]
abbrev dktX0_canShow_1 : List UInt8 := dkwX0_canShow_1 ++ []
def dkwX0_canShow_0 : List UInt8 := [43, 28, 182, 0, 155, 154, 0, 30, 43, 180, 0, 138, 28, 46, 29, 184, 0, 245, 154, 0, 17, 42, 43, 28]
abbrev dktX0_canShow_0 : List UInt8 := dkwX0_canShow_0 ++ dktX0_canShow_1
theorem dksX0_canShow_0 : cX0_canShow.data.toList.drop 0 = dktX0_canShow_0 := by decide +kernel
theorem dksX0_canShow_1 : cX0_canShow.data.toList.drop 24 = dktX0_canShow_1 := dk_seg dksX0_canShow_0 24 rfl rfl
theorem dX0_canShow_0 : decode cX0_canShow 0 = .ok (.aload_n 1, 1) := dk_43 (dk_at dksX0_canShow_0 0 rfl rfl)
theorem dX0_canShow_1 : decode cX0_canShow 1 = .ok (.iload_n 2, 1) := dk_28 (dk_at dksX0_canShow_0 1 rfl rfl)
theorem dX0_canShow_2 : decode cX0_canShow 2 = .ok (.invokevirtual 155, 3) := dk_182 0 155 (dk_at dksX0_canShow_0 2 rfl rfl)
theorem dX0_canShow_5 : decode cX0_canShow 5 = .ok (.ifCond .ne 30, 3) := dk_154 0 30 (dk_at dksX0_canShow_0 5 rfl rfl)
theorem dX0_canShow_8 : decode cX0_canShow 8 = .ok (.aload_n 1, 1) := dk_43 (dk_at dksX0_canShow_0 8 rfl rfl)
theorem dX0_canShow_9 : decode cX0_canShow 9 = .ok (.getfield 138, 3) := dk_180 0 138 (dk_at dksX0_canShow_0 9 rfl rfl)
theorem dX0_canShow_12 : decode cX0_canShow 12 = .ok (.iload_n 2, 1) := dk_28 (dk_at dksX0_canShow_0 12 rfl rfl)
theorem dX0_canShow_13 : decode cX0_canShow 13 = .ok (.iaload, 1) := dk_46 (dk_at dksX0_canShow_0 13 rfl rfl)
theorem dX0_canShow_14 : decode cX0_canShow 14 = .ok (.iload_n 3, 1) := dk_29 (dk_at dksX0_canShow_0 14 rfl rfl)
theorem dX0_canShow_15 : decode cX0_canShow 15 = .ok (.invokestatic 245, 3) := dk_184 0 245 (dk_at dksX0_canShow_0 15 rfl rfl)
theorem dX0_canShow_18 : decode cX0_canShow 18 = .ok (.ifCond .ne 17, 3) := dk_154 0 17 (dk_at dksX0_canShow_0 18 rfl rfl)
theorem dX0_canShow_21 : decode cX0_canShow 21 = .ok (.aload_n 0, 1) := dk_42 (dk_at dksX0_canShow_0 21 rfl rfl)
theorem dX0_canShow_22 : decode cX0_canShow 22 = .ok (.aload_n 1, 1) := dk_43 (dk_at dksX0_canShow_0 22 rfl rfl)
theorem dX0_canShow_23 : decode cX0_canShow 23 = .ok (.iload_n 2, 1) := dk_28 (dk_at dksX0_canShow_0 23 rfl rfl)
theorem dX0_canShow_24 : decode cX0_canShow 24 = .ok (.iload_n 3, 1) := dk_29 (dk_at dksX0_canShow_1 0 rfl rfl)
theorem dX0_canShow_25 : decode cX0_canShow 25 = .ok (.invokevirtual 288, 3) := dk_182 1 32 (dk_at dksX0_canShow_1 1 rfl rfl)
theorem dX0_canShow_28 : decode cX0_canShow 28 = .ok (.ifCond .ne 7, 3) := dk_154 0 7 (dk_at dksX0_canShow_1 4 rfl rfl)
theorem dX0_canShow_31 : decode cX0_canShow 31 = .ok (.iconst 1, 1) := dk_4 (dk_at dksX0_canShow_1 7 rfl rfl)
theorem dX0_canShow_32 : decode cX0_canShow 32 = .ok (.goto 4, 3) := dk_167 0 4 (dk_at dksX0_canShow_1 8 rfl rfl)
theorem dX0_canShow_35 : decode cX0_canShow 35 = .ok (.iconst 0, 1) := dk_3 (dk_at dksX0_canShow_1 11 rfl rfl)
theorem dX0_canShow_36 : decode cX0_canShow 36 = .ok (.ireturn, 1) := dk_172 (dk_at dksX0_canShow_1 12 rfl rfl)
abbrev cX0_keeps : ByteArray := prog_1_method_46_code
def yX0_keeps : MethodName := ⟨RX0, "keeps", "(I)V"⟩
def dkwX0_keeps_4 : List UInt8 := [42, 180, 0, 60, 42, 180, 0, 106, 27, 79, 42, 89, 180, 0, 106, 4, 96, 181, 0, 106, 177]
abbrev dktX0_keeps_4 : List UInt8 := dkwX0_keeps_4 ++ []
def dkwX0_keeps_3 : List UInt8 := [180, 0, 106, 4, 100, 181, 0, 106, 42, 180, 0, 53, 42, 180, 0, 106, 50, 42, 182, 0, 132, 182, 1, 42]
abbrev dktX0_keeps_3 : List UInt8 := dkwX0_keeps_3 ++ dktX0_keeps_4
def dkwX0_keeps_2 : List UInt8 := [180, 0, 60, 29, 46, 79, 132, 3, 1, 167, 255, 219, 42, 180, 0, 53, 16, 15, 44, 83, 42, 89]
abbrev dktX0_keeps_2 : List UInt8 := dkwX0_keeps_2 ++ dktX0_keeps_3
def dkwX0_keeps_1 : List UInt8 := [42, 180, 0, 53, 29, 4, 100, 42, 180, 0, 53, 29, 50, 83, 42, 180, 0, 60, 29, 4, 100, 42]
abbrev dktX0_keeps_1 : List UInt8 := dkwX0_keeps_1 ++ dktX0_keeps_2
def dkwX0_keeps_0 : List UInt8 := [42, 180, 0, 106, 16, 16, 160, 0, 70, 42, 180, 0, 53, 3, 50, 77, 4, 62, 29, 16, 16, 162, 0, 37]
abbrev dktX0_keeps_0 : List UInt8 := dkwX0_keeps_0 ++ dktX0_keeps_1
theorem dksX0_keeps_0 : cX0_keeps.data.toList.drop 0 = dktX0_keeps_0 := by decide +kernel
theorem dksX0_keeps_1 : cX0_keeps.data.toList.drop 24 = dktX0_keeps_1 := dk_seg dksX0_keeps_0 24 rfl rfl
theorem dksX0_keeps_2 : cX0_keeps.data.toList.drop 46 = dktX0_keeps_2 := dk_seg dksX0_keeps_1 22 rfl rfl
theorem dksX0_keeps_3 : cX0_keeps.data.toList.drop 68 = dktX0_keeps_3 := dk_seg dksX0_keeps_2 22 rfl rfl
theorem dksX0_keeps_4 : cX0_keeps.data.toList.drop 92 = dktX0_keeps_4 := dk_seg dksX0_keeps_3 24 rfl rfl
theorem dX0_keeps_0 : decode cX0_keeps 0 = .ok (.aload_n 0, 1) := dk_42 (dk_at dksX0_keeps_0 0 rfl rfl)
theorem dX0_keeps_1 : decode cX0_keeps 1 = .ok (.getfield 106, 3) := dk_180 0 106 (dk_at dksX0_keeps_0 1 rfl rfl)
theorem dX0_keeps_4 : decode cX0_keeps 4 = .ok (.bipush 16, 2) := dk_16 16 (dk_at dksX0_keeps_0 4 rfl rfl)
theorem dX0_keeps_6 : decode cX0_keeps 6 = .ok (.if_icmp .ne 70, 3) := dk_160 0 70 (dk_at dksX0_keeps_0 6 rfl rfl)
theorem dX0_keeps_9 : decode cX0_keeps 9 = .ok (.aload_n 0, 1) := dk_42 (dk_at dksX0_keeps_0 9 rfl rfl)
theorem dX0_keeps_10 : decode cX0_keeps 10 = .ok (.getfield 53, 3) := dk_180 0 53 (dk_at dksX0_keeps_0 10 rfl rfl)
theorem dX0_keeps_13 : decode cX0_keeps 13 = .ok (.iconst 0, 1) := dk_3 (dk_at dksX0_keeps_0 13 rfl rfl)
theorem dX0_keeps_14 : decode cX0_keeps 14 = .ok (.aaload, 1) := dk_50 (dk_at dksX0_keeps_0 14 rfl rfl)
theorem dX0_keeps_15 : decode cX0_keeps 15 = .ok (.astore_n 2, 1) := dk_77 (dk_at dksX0_keeps_0 15 rfl rfl)
theorem dX0_keeps_16 : decode cX0_keeps 16 = .ok (.iconst 1, 1) := dk_4 (dk_at dksX0_keeps_0 16 rfl rfl)
theorem dX0_keeps_17 : decode cX0_keeps 17 = .ok (.istore_n 3, 1) := dk_62 (dk_at dksX0_keeps_0 17 rfl rfl)
theorem dX0_keeps_18 : decode cX0_keeps 18 = .ok (.iload_n 3, 1) := dk_29 (dk_at dksX0_keeps_0 18 rfl rfl)
theorem dX0_keeps_19 : decode cX0_keeps 19 = .ok (.bipush 16, 2) := dk_16 16 (dk_at dksX0_keeps_0 19 rfl rfl)
theorem dX0_keeps_21 : decode cX0_keeps 21 = .ok (.if_icmp .ge 37, 3) := dk_162 0 37 (dk_at dksX0_keeps_0 21 rfl rfl)
theorem dX0_keeps_24 : decode cX0_keeps 24 = .ok (.aload_n 0, 1) := dk_42 (dk_at dksX0_keeps_1 0 rfl rfl)
theorem dX0_keeps_25 : decode cX0_keeps 25 = .ok (.getfield 53, 3) := dk_180 0 53 (dk_at dksX0_keeps_1 1 rfl rfl)
theorem dX0_keeps_28 : decode cX0_keeps 28 = .ok (.iload_n 3, 1) := dk_29 (dk_at dksX0_keeps_1 4 rfl rfl)
theorem dX0_keeps_29 : decode cX0_keeps 29 = .ok (.iconst 1, 1) := dk_4 (dk_at dksX0_keeps_1 5 rfl rfl)
theorem dX0_keeps_30 : decode cX0_keeps 30 = .ok (.isub, 1) := dk_100 (dk_at dksX0_keeps_1 6 rfl rfl)
theorem dX0_keeps_31 : decode cX0_keeps 31 = .ok (.aload_n 0, 1) := dk_42 (dk_at dksX0_keeps_1 7 rfl rfl)
theorem dX0_keeps_32 : decode cX0_keeps 32 = .ok (.getfield 53, 3) := dk_180 0 53 (dk_at dksX0_keeps_1 8 rfl rfl)
theorem dX0_keeps_35 : decode cX0_keeps 35 = .ok (.iload_n 3, 1) := dk_29 (dk_at dksX0_keeps_1 11 rfl rfl)
theorem dX0_keeps_36 : decode cX0_keeps 36 = .ok (.aaload, 1) := dk_50 (dk_at dksX0_keeps_1 12 rfl rfl)
theorem dX0_keeps_37 : decode cX0_keeps 37 = .ok (.aastore, 1) := dk_83 (dk_at dksX0_keeps_1 13 rfl rfl)
theorem dX0_keeps_38 : decode cX0_keeps 38 = .ok (.aload_n 0, 1) := dk_42 (dk_at dksX0_keeps_1 14 rfl rfl)
theorem dX0_keeps_39 : decode cX0_keeps 39 = .ok (.getfield 60, 3) := dk_180 0 60 (dk_at dksX0_keeps_1 15 rfl rfl)
theorem dX0_keeps_42 : decode cX0_keeps 42 = .ok (.iload_n 3, 1) := dk_29 (dk_at dksX0_keeps_1 18 rfl rfl)
theorem dX0_keeps_43 : decode cX0_keeps 43 = .ok (.iconst 1, 1) := dk_4 (dk_at dksX0_keeps_1 19 rfl rfl)
theorem dX0_keeps_44 : decode cX0_keeps 44 = .ok (.isub, 1) := dk_100 (dk_at dksX0_keeps_1 20 rfl rfl)
theorem dX0_keeps_45 : decode cX0_keeps 45 = .ok (.aload_n 0, 1) := dk_42 (dk_at dksX0_keeps_1 21 rfl rfl)
theorem dX0_keeps_46 : decode cX0_keeps 46 = .ok (.getfield 60, 3) := dk_180 0 60 (dk_at dksX0_keeps_2 0 rfl rfl)
theorem dX0_keeps_49 : decode cX0_keeps 49 = .ok (.iload_n 3, 1) := dk_29 (dk_at dksX0_keeps_2 3 rfl rfl)
theorem dX0_keeps_50 : decode cX0_keeps 50 = .ok (.iaload, 1) := dk_46 (dk_at dksX0_keeps_2 4 rfl rfl)
theorem dX0_keeps_51 : decode cX0_keeps 51 = .ok (.iastore, 1) := dk_79 (dk_at dksX0_keeps_2 5 rfl rfl)
theorem dX0_keeps_52 : decode cX0_keeps 52 = .ok (.iinc 3 1, 3) := dk_132 3 1 (dk_at dksX0_keeps_2 6 rfl rfl)
theorem dX0_keeps_55 : decode cX0_keeps 55 = .ok (.goto (-37), 3) := dk_167 255 219 (dk_at dksX0_keeps_2 9 rfl rfl)
theorem dX0_keeps_58 : decode cX0_keeps 58 = .ok (.aload_n 0, 1) := dk_42 (dk_at dksX0_keeps_2 12 rfl rfl)
theorem dX0_keeps_59 : decode cX0_keeps 59 = .ok (.getfield 53, 3) := dk_180 0 53 (dk_at dksX0_keeps_2 13 rfl rfl)
theorem dX0_keeps_62 : decode cX0_keeps 62 = .ok (.bipush 15, 2) := dk_16 15 (dk_at dksX0_keeps_2 16 rfl rfl)
theorem dX0_keeps_64 : decode cX0_keeps 64 = .ok (.aload_n 2, 1) := dk_44 (dk_at dksX0_keeps_2 18 rfl rfl)
theorem dX0_keeps_65 : decode cX0_keeps 65 = .ok (.aastore, 1) := dk_83 (dk_at dksX0_keeps_2 19 rfl rfl)
theorem dX0_keeps_66 : decode cX0_keeps 66 = .ok (.aload_n 0, 1) := dk_42 (dk_at dksX0_keeps_2 20 rfl rfl)
theorem dX0_keeps_67 : decode cX0_keeps 67 = .ok (.dup, 1) := dk_89 (dk_at dksX0_keeps_2 21 rfl rfl)
theorem dX0_keeps_68 : decode cX0_keeps 68 = .ok (.getfield 106, 3) := dk_180 0 106 (dk_at dksX0_keeps_3 0 rfl rfl)
theorem dX0_keeps_71 : decode cX0_keeps 71 = .ok (.iconst 1, 1) := dk_4 (dk_at dksX0_keeps_3 3 rfl rfl)
theorem dX0_keeps_72 : decode cX0_keeps 72 = .ok (.isub, 1) := dk_100 (dk_at dksX0_keeps_3 4 rfl rfl)
theorem dX0_keeps_73 : decode cX0_keeps 73 = .ok (.putfield 106, 3) := dk_181 0 106 (dk_at dksX0_keeps_3 5 rfl rfl)
theorem dX0_keeps_76 : decode cX0_keeps 76 = .ok (.aload_n 0, 1) := dk_42 (dk_at dksX0_keeps_3 8 rfl rfl)
theorem dX0_keeps_77 : decode cX0_keeps 77 = .ok (.getfield 53, 3) := dk_180 0 53 (dk_at dksX0_keeps_3 9 rfl rfl)
theorem dX0_keeps_80 : decode cX0_keeps 80 = .ok (.aload_n 0, 1) := dk_42 (dk_at dksX0_keeps_3 12 rfl rfl)
theorem dX0_keeps_81 : decode cX0_keeps 81 = .ok (.getfield 106, 3) := dk_180 0 106 (dk_at dksX0_keeps_3 13 rfl rfl)
theorem dX0_keeps_84 : decode cX0_keeps 84 = .ok (.aaload, 1) := dk_50 (dk_at dksX0_keeps_3 16 rfl rfl)
theorem dX0_keeps_85 : decode cX0_keeps 85 = .ok (.aload_n 0, 1) := dk_42 (dk_at dksX0_keeps_3 17 rfl rfl)
theorem dX0_keeps_86 : decode cX0_keeps 86 = .ok (.invokevirtual 132, 3) := dk_182 0 132 (dk_at dksX0_keeps_3 18 rfl rfl)
theorem dX0_keeps_89 : decode cX0_keeps 89 = .ok (.invokevirtual 298, 3) := dk_182 1 42 (dk_at dksX0_keeps_3 21 rfl rfl)
theorem dX0_keeps_92 : decode cX0_keeps 92 = .ok (.aload_n 0, 1) := dk_42 (dk_at dksX0_keeps_4 0 rfl rfl)
theorem dX0_keeps_93 : decode cX0_keeps 93 = .ok (.getfield 60, 3) := dk_180 0 60 (dk_at dksX0_keeps_4 1 rfl rfl)
theorem dX0_keeps_96 : decode cX0_keeps 96 = .ok (.aload_n 0, 1) := dk_42 (dk_at dksX0_keeps_4 4 rfl rfl)
theorem dX0_keeps_97 : decode cX0_keeps 97 = .ok (.getfield 106, 3) := dk_180 0 106 (dk_at dksX0_keeps_4 5 rfl rfl)
theorem dX0_keeps_100 : decode cX0_keeps 100 = .ok (.iload_n 1, 1) := dk_27 (dk_at dksX0_keeps_4 8 rfl rfl)
theorem dX0_keeps_101 : decode cX0_keeps 101 = .ok (.iastore, 1) := dk_79 (dk_at dksX0_keeps_4 9 rfl rfl)
theorem dX0_keeps_102 : decode cX0_keeps 102 = .ok (.aload_n 0, 1) := dk_42 (dk_at dksX0_keeps_4 10 rfl rfl)
theorem dX0_keeps_103 : decode cX0_keeps 103 = .ok (.dup, 1) := dk_89 (dk_at dksX0_keeps_4 11 rfl rfl)
theorem dX0_keeps_104 : decode cX0_keeps 104 = .ok (.getfield 106, 3) := dk_180 0 106 (dk_at dksX0_keeps_4 12 rfl rfl)
theorem dX0_keeps_107 : decode cX0_keeps 107 = .ok (.iconst 1, 1) := dk_4 (dk_at dksX0_keeps_4 15 rfl rfl)
theorem dX0_keeps_108 : decode cX0_keeps 108 = .ok (.iadd, 1) := dk_96 (dk_at dksX0_keeps_4 16 rfl rfl)
theorem dX0_keeps_109 : decode cX0_keeps 109 = .ok (.putfield 106, 3) := dk_181 0 106 (dk_at dksX0_keeps_4 17 rfl rfl)
theorem dX0_keeps_112 : decode cX0_keeps 112 = .ok (.return_, 1) := dk_177 (dk_at dksX0_keeps_4 20 rfl rfl)
abbrev cX0_doneOr : ByteArray := prog_1_method_51_code
def yX0_doneOr : MethodName := ⟨RX0, "doneOr", "(I)I"⟩
def dkwX0_doneOr_0 : List UInt8 := [27, 156, 0, 11, 42, 27, 182, 0, 115, 167, 0, 8, 42, 27, 182, 0, 109, 172]
abbrev dktX0_doneOr_0 : List UInt8 := dkwX0_doneOr_0 ++ []
theorem dksX0_doneOr_0 : cX0_doneOr.data.toList.drop 0 = dktX0_doneOr_0 := by decide +kernel
theorem dX0_doneOr_0 : decode cX0_doneOr 0 = .ok (.iload_n 1, 1) := dk_27 (dk_at dksX0_doneOr_0 0 rfl rfl)
theorem dX0_doneOr_1 : decode cX0_doneOr 1 = .ok (.ifCond .ge 11, 3) := dk_156 0 11 (dk_at dksX0_doneOr_0 1 rfl rfl)
theorem dX0_doneOr_4 : decode cX0_doneOr 4 = .ok (.aload_n 0, 1) := dk_42 (dk_at dksX0_doneOr_0 4 rfl rfl)
theorem dX0_doneOr_5 : decode cX0_doneOr 5 = .ok (.iload_n 1, 1) := dk_27 (dk_at dksX0_doneOr_0 5 rfl rfl)
theorem dX0_doneOr_6 : decode cX0_doneOr 6 = .ok (.invokevirtual 115, 3) := dk_182 0 115 (dk_at dksX0_doneOr_0 6 rfl rfl)
theorem dX0_doneOr_9 : decode cX0_doneOr 9 = .ok (.goto 8, 3) := dk_167 0 8 (dk_at dksX0_doneOr_0 9 rfl rfl)
theorem dX0_doneOr_12 : decode cX0_doneOr 12 = .ok (.aload_n 0, 1) := dk_42 (dk_at dksX0_doneOr_0 12 rfl rfl)
theorem dX0_doneOr_13 : decode cX0_doneOr 13 = .ok (.iload_n 1, 1) := dk_27 (dk_at dksX0_doneOr_0 13 rfl rfl)
theorem dX0_doneOr_14 : decode cX0_doneOr 14 = .ok (.invokevirtual 109, 3) := dk_182 0 109 (dk_at dksX0_doneOr_0 14 rfl rfl)
theorem dX0_doneOr_17 : decode cX0_doneOr 17 = .ok (.ireturn, 1) := dk_172 (dk_at dksX0_doneOr_0 17 rfl rfl)
abbrev cX0_hide : ByteArray := prog_1_method_53_code
def yX0_hide : MethodName := ⟨RX0, "hide", "(II)I"⟩
def dkwX0_hide_0 : List UInt8 := [42, 42, 27, 28, 182, 1, 62, 182, 1, 59, 172]
abbrev dktX0_hide_0 : List UInt8 := dkwX0_hide_0 ++ []
theorem dksX0_hide_0 : cX0_hide.data.toList.drop 0 = dktX0_hide_0 := by decide +kernel
theorem dX0_hide_0 : decode cX0_hide 0 = .ok (.aload_n 0, 1) := dk_42 (dk_at dksX0_hide_0 0 rfl rfl)
theorem dX0_hide_1 : decode cX0_hide 1 = .ok (.aload_n 0, 1) := dk_42 (dk_at dksX0_hide_0 1 rfl rfl)
theorem dX0_hide_2 : decode cX0_hide 2 = .ok (.iload_n 1, 1) := dk_27 (dk_at dksX0_hide_0 2 rfl rfl)
theorem dX0_hide_3 : decode cX0_hide 3 = .ok (.iload_n 2, 1) := dk_28 (dk_at dksX0_hide_0 3 rfl rfl)
theorem dX0_hide_4 : decode cX0_hide 4 = .ok (.invokevirtual 318, 3) := dk_182 1 62 (dk_at dksX0_hide_0 4 rfl rfl)
theorem dX0_hide_7 : decode cX0_hide 7 = .ok (.invokevirtual 315, 3) := dk_182 1 59 (dk_at dksX0_hide_0 7 rfl rfl)
theorem dX0_hide_10 : decode cX0_hide 10 = .ok (.ireturn, 1) := dk_172 (dk_at dksX0_hide_0 10 rfl rfl)
abbrev cX0_hidesKept : ByteArray := prog_1_method_48_code
def yX0_hidesKept : MethodName := ⟨RX0, "hidesKept", "(II)I"⟩
def dkwX0_hidesKept_3 : List UInt8 := [27, 46, 172]
abbrev dktX0_hidesKept_3 : List UInt8 := dkwX0_hidesKept_3 ++ []
def dkwX0_hidesKept_2 : List UInt8 := [16, 253, 172, 42, 4, 182, 1, 48, 42, 182, 0, 132, 27, 28, 182, 1, 51, 42, 182, 0, 132, 180, 0, 138]
abbrev dktX0_hidesKept_2 : List UInt8 := dkwX0_hidesKept_2 ++ dktX0_hidesKept_3
def dkwX0_hidesKept_1 : List UInt8 := [27, 182, 0, 155, 154, 0, 19, 42, 182, 0, 132, 180, 0, 138, 27, 46, 28, 184, 0, 245, 154, 0, 6]
abbrev dktX0_hidesKept_1 : List UInt8 := dkwX0_hidesKept_1 ++ dktX0_hidesKept_2
def dkwX0_hidesKept_0 : List UInt8 := [28, 184, 0, 162, 154, 0, 5, 2, 172, 42, 27, 182, 0, 152, 154, 0, 6, 16, 254, 172, 42, 182, 0, 132]
abbrev dktX0_hidesKept_0 : List UInt8 := dkwX0_hidesKept_0 ++ dktX0_hidesKept_1
theorem dksX0_hidesKept_0 : cX0_hidesKept.data.toList.drop 0 = dktX0_hidesKept_0 := by decide +kernel
theorem dksX0_hidesKept_1 : cX0_hidesKept.data.toList.drop 24 = dktX0_hidesKept_1 := dk_seg dksX0_hidesKept_0 24 rfl rfl
theorem dksX0_hidesKept_2 : cX0_hidesKept.data.toList.drop 47 = dktX0_hidesKept_2 := dk_seg dksX0_hidesKept_1 23 rfl rfl
theorem dksX0_hidesKept_3 : cX0_hidesKept.data.toList.drop 71 = dktX0_hidesKept_3 := dk_seg dksX0_hidesKept_2 24 rfl rfl
theorem dX0_hidesKept_0 : decode cX0_hidesKept 0 = .ok (.iload_n 2, 1) := dk_28 (dk_at dksX0_hidesKept_0 0 rfl rfl)
theorem dX0_hidesKept_1 : decode cX0_hidesKept 1 = .ok (.invokestatic 162, 3) := dk_184 0 162 (dk_at dksX0_hidesKept_0 1 rfl rfl)
theorem dX0_hidesKept_4 : decode cX0_hidesKept 4 = .ok (.ifCond .ne 5, 3) := dk_154 0 5 (dk_at dksX0_hidesKept_0 4 rfl rfl)
theorem dX0_hidesKept_7 : decode cX0_hidesKept 7 = .ok (.iconst (-1), 1) := dk_2 (dk_at dksX0_hidesKept_0 7 rfl rfl)
theorem dX0_hidesKept_8 : decode cX0_hidesKept 8 = .ok (.ireturn, 1) := dk_172 (dk_at dksX0_hidesKept_0 8 rfl rfl)
theorem dX0_hidesKept_9 : decode cX0_hidesKept 9 = .ok (.aload_n 0, 1) := dk_42 (dk_at dksX0_hidesKept_0 9 rfl rfl)
theorem dX0_hidesKept_10 : decode cX0_hidesKept 10 = .ok (.iload_n 1, 1) := dk_27 (dk_at dksX0_hidesKept_0 10 rfl rfl)
theorem dX0_hidesKept_11 : decode cX0_hidesKept 11 = .ok (.invokevirtual 152, 3) := dk_182 0 152 (dk_at dksX0_hidesKept_0 11 rfl rfl)
theorem dX0_hidesKept_14 : decode cX0_hidesKept 14 = .ok (.ifCond .ne 6, 3) := dk_154 0 6 (dk_at dksX0_hidesKept_0 14 rfl rfl)
theorem dX0_hidesKept_17 : decode cX0_hidesKept 17 = .ok (.bipush (-2), 2) := dk_16 254 (dk_at dksX0_hidesKept_0 17 rfl rfl)
theorem dX0_hidesKept_19 : decode cX0_hidesKept 19 = .ok (.ireturn, 1) := dk_172 (dk_at dksX0_hidesKept_0 19 rfl rfl)
theorem dX0_hidesKept_20 : decode cX0_hidesKept 20 = .ok (.aload_n 0, 1) := dk_42 (dk_at dksX0_hidesKept_0 20 rfl rfl)
theorem dX0_hidesKept_21 : decode cX0_hidesKept 21 = .ok (.invokevirtual 132, 3) := dk_182 0 132 (dk_at dksX0_hidesKept_0 21 rfl rfl)
theorem dX0_hidesKept_24 : decode cX0_hidesKept 24 = .ok (.iload_n 1, 1) := dk_27 (dk_at dksX0_hidesKept_1 0 rfl rfl)
theorem dX0_hidesKept_25 : decode cX0_hidesKept 25 = .ok (.invokevirtual 155, 3) := dk_182 0 155 (dk_at dksX0_hidesKept_1 1 rfl rfl)
theorem dX0_hidesKept_28 : decode cX0_hidesKept 28 = .ok (.ifCond .ne 19, 3) := dk_154 0 19 (dk_at dksX0_hidesKept_1 4 rfl rfl)
theorem dX0_hidesKept_31 : decode cX0_hidesKept 31 = .ok (.aload_n 0, 1) := dk_42 (dk_at dksX0_hidesKept_1 7 rfl rfl)
theorem dX0_hidesKept_32 : decode cX0_hidesKept 32 = .ok (.invokevirtual 132, 3) := dk_182 0 132 (dk_at dksX0_hidesKept_1 8 rfl rfl)
theorem dX0_hidesKept_35 : decode cX0_hidesKept 35 = .ok (.getfield 138, 3) := dk_180 0 138 (dk_at dksX0_hidesKept_1 11 rfl rfl)
theorem dX0_hidesKept_38 : decode cX0_hidesKept 38 = .ok (.iload_n 1, 1) := dk_27 (dk_at dksX0_hidesKept_1 14 rfl rfl)
theorem dX0_hidesKept_39 : decode cX0_hidesKept 39 = .ok (.iaload, 1) := dk_46 (dk_at dksX0_hidesKept_1 15 rfl rfl)
theorem dX0_hidesKept_40 : decode cX0_hidesKept 40 = .ok (.iload_n 2, 1) := dk_28 (dk_at dksX0_hidesKept_1 16 rfl rfl)
theorem dX0_hidesKept_41 : decode cX0_hidesKept 41 = .ok (.invokestatic 245, 3) := dk_184 0 245 (dk_at dksX0_hidesKept_1 17 rfl rfl)
theorem dX0_hidesKept_44 : decode cX0_hidesKept 44 = .ok (.ifCond .ne 6, 3) := dk_154 0 6 (dk_at dksX0_hidesKept_1 20 rfl rfl)
theorem dX0_hidesKept_47 : decode cX0_hidesKept 47 = .ok (.bipush (-3), 2) := dk_16 253 (dk_at dksX0_hidesKept_2 0 rfl rfl)
theorem dX0_hidesKept_49 : decode cX0_hidesKept 49 = .ok (.ireturn, 1) := dk_172 (dk_at dksX0_hidesKept_2 2 rfl rfl)
theorem dX0_hidesKept_50 : decode cX0_hidesKept 50 = .ok (.aload_n 0, 1) := dk_42 (dk_at dksX0_hidesKept_2 3 rfl rfl)
theorem dX0_hidesKept_51 : decode cX0_hidesKept 51 = .ok (.iconst 1, 1) := dk_4 (dk_at dksX0_hidesKept_2 4 rfl rfl)
theorem dX0_hidesKept_52 : decode cX0_hidesKept 52 = .ok (.invokevirtual 304, 3) := dk_182 1 48 (dk_at dksX0_hidesKept_2 5 rfl rfl)
theorem dX0_hidesKept_55 : decode cX0_hidesKept 55 = .ok (.aload_n 0, 1) := dk_42 (dk_at dksX0_hidesKept_2 8 rfl rfl)
theorem dX0_hidesKept_56 : decode cX0_hidesKept 56 = .ok (.invokevirtual 132, 3) := dk_182 0 132 (dk_at dksX0_hidesKept_2 9 rfl rfl)
theorem dX0_hidesKept_59 : decode cX0_hidesKept 59 = .ok (.iload_n 1, 1) := dk_27 (dk_at dksX0_hidesKept_2 12 rfl rfl)
theorem dX0_hidesKept_60 : decode cX0_hidesKept 60 = .ok (.iload_n 2, 1) := dk_28 (dk_at dksX0_hidesKept_2 13 rfl rfl)
theorem dX0_hidesKept_61 : decode cX0_hidesKept 61 = .ok (.invokevirtual 307, 3) := dk_182 1 51 (dk_at dksX0_hidesKept_2 14 rfl rfl)
theorem dX0_hidesKept_64 : decode cX0_hidesKept 64 = .ok (.aload_n 0, 1) := dk_42 (dk_at dksX0_hidesKept_2 17 rfl rfl)
theorem dX0_hidesKept_65 : decode cX0_hidesKept 65 = .ok (.invokevirtual 132, 3) := dk_182 0 132 (dk_at dksX0_hidesKept_2 18 rfl rfl)
theorem dX0_hidesKept_68 : decode cX0_hidesKept 68 = .ok (.getfield 138, 3) := dk_180 0 138 (dk_at dksX0_hidesKept_2 21 rfl rfl)
theorem dX0_hidesKept_71 : decode cX0_hidesKept 71 = .ok (.iload_n 1, 1) := dk_27 (dk_at dksX0_hidesKept_3 0 rfl rfl)
theorem dX0_hidesKept_72 : decode cX0_hidesKept 72 = .ok (.iaload, 1) := dk_46 (dk_at dksX0_hidesKept_3 1 rfl rfl)
theorem dX0_hidesKept_73 : decode cX0_hidesKept 73 = .ok (.ireturn, 1) := dk_172 (dk_at dksX0_hidesKept_3 2 rfl rfl)
abbrev cX0_man : ByteArray := prog_1_method_54_code
def yX0_man : MethodName := ⟨RX0, "man", "(II)I"⟩
def dkwX0_man_0 : List UInt8 := [42, 42, 27, 28, 182, 1, 65, 182, 1, 59, 172]
abbrev dktX0_man_0 : List UInt8 := dkwX0_man_0 ++ []
theorem dksX0_man_0 : cX0_man.data.toList.drop 0 = dktX0_man_0 := by decide +kernel
theorem dX0_man_0 : decode cX0_man 0 = .ok (.aload_n 0, 1) := dk_42 (dk_at dksX0_man_0 0 rfl rfl)
theorem dX0_man_1 : decode cX0_man 1 = .ok (.aload_n 0, 1) := dk_42 (dk_at dksX0_man_0 1 rfl rfl)
theorem dX0_man_2 : decode cX0_man 2 = .ok (.iload_n 1, 1) := dk_27 (dk_at dksX0_man_0 2 rfl rfl)
theorem dX0_man_3 : decode cX0_man 3 = .ok (.iload_n 2, 1) := dk_28 (dk_at dksX0_man_0 3 rfl rfl)
theorem dX0_man_4 : decode cX0_man 4 = .ok (.invokevirtual 321, 3) := dk_182 1 65 (dk_at dksX0_man_0 4 rfl rfl)
theorem dX0_man_7 : decode cX0_man 7 = .ok (.invokevirtual 315, 3) := dk_182 1 59 (dk_at dksX0_man_0 7 rfl rfl)
theorem dX0_man_10 : decode cX0_man 10 = .ok (.ireturn, 1) := dk_172 (dk_at dksX0_man_0 10 rfl rfl)
abbrev cX0_mansKept : ByteArray := prog_1_method_49_code
def yX0_mansKept : MethodName := ⟨RX0, "mansKept", "(II)I"⟩
def dkwX0_mansKept_3 : List UInt8 := [92, 46, 28, 96, 79, 42, 182, 0, 132, 180, 0, 135, 27, 46, 172]
abbrev dktX0_mansKept_3 : List UInt8 := dkwX0_mansKept_3 ++ []
def dkwX0_mansKept_2 : List UInt8 := [16, 99, 184, 0, 26, 154, 0, 6, 16, 253, 172, 42, 5, 182, 1, 48, 42, 182, 0, 132, 180, 0, 135, 27]
abbrev dktX0_mansKept_2 : List UInt8 := dkwX0_mansKept_2 ++ dktX0_mansKept_3
def dkwX0_mansKept_1 : List UInt8 := [42, 182, 0, 132, 27, 182, 0, 155, 154, 0, 23, 42, 182, 0, 132, 180, 0, 135, 27, 46, 28, 96, 3]
abbrev dktX0_mansKept_1 : List UInt8 := dkwX0_mansKept_1 ++ dktX0_mansKept_2
def dkwX0_mansKept_0 : List UInt8 := [28, 16, 157, 16, 99, 184, 0, 26, 154, 0, 5, 2, 172, 42, 27, 182, 0, 152, 154, 0, 6, 16, 254, 172]
abbrev dktX0_mansKept_0 : List UInt8 := dkwX0_mansKept_0 ++ dktX0_mansKept_1
theorem dksX0_mansKept_0 : cX0_mansKept.data.toList.drop 0 = dktX0_mansKept_0 := by decide +kernel
theorem dksX0_mansKept_1 : cX0_mansKept.data.toList.drop 24 = dktX0_mansKept_1 := dk_seg dksX0_mansKept_0 24 rfl rfl
theorem dksX0_mansKept_2 : cX0_mansKept.data.toList.drop 47 = dktX0_mansKept_2 := dk_seg dksX0_mansKept_1 23 rfl rfl
theorem dksX0_mansKept_3 : cX0_mansKept.data.toList.drop 71 = dktX0_mansKept_3 := dk_seg dksX0_mansKept_2 24 rfl rfl
theorem dX0_mansKept_0 : decode cX0_mansKept 0 = .ok (.iload_n 2, 1) := dk_28 (dk_at dksX0_mansKept_0 0 rfl rfl)
theorem dX0_mansKept_1 : decode cX0_mansKept 1 = .ok (.bipush (-99), 2) := dk_16 157 (dk_at dksX0_mansKept_0 1 rfl rfl)
theorem dX0_mansKept_3 : decode cX0_mansKept 3 = .ok (.bipush 99, 2) := dk_16 99 (dk_at dksX0_mansKept_0 3 rfl rfl)
theorem dX0_mansKept_5 : decode cX0_mansKept 5 = .ok (.invokestatic 26, 3) := dk_184 0 26 (dk_at dksX0_mansKept_0 5 rfl rfl)
theorem dX0_mansKept_8 : decode cX0_mansKept 8 = .ok (.ifCond .ne 5, 3) := dk_154 0 5 (dk_at dksX0_mansKept_0 8 rfl rfl)
theorem dX0_mansKept_11 : decode cX0_mansKept 11 = .ok (.iconst (-1), 1) := dk_2 (dk_at dksX0_mansKept_0 11 rfl rfl)
theorem dX0_mansKept_12 : decode cX0_mansKept 12 = .ok (.ireturn, 1) := dk_172 (dk_at dksX0_mansKept_0 12 rfl rfl)
theorem dX0_mansKept_13 : decode cX0_mansKept 13 = .ok (.aload_n 0, 1) := dk_42 (dk_at dksX0_mansKept_0 13 rfl rfl)
theorem dX0_mansKept_14 : decode cX0_mansKept 14 = .ok (.iload_n 1, 1) := dk_27 (dk_at dksX0_mansKept_0 14 rfl rfl)
theorem dX0_mansKept_15 : decode cX0_mansKept 15 = .ok (.invokevirtual 152, 3) := dk_182 0 152 (dk_at dksX0_mansKept_0 15 rfl rfl)
theorem dX0_mansKept_18 : decode cX0_mansKept 18 = .ok (.ifCond .ne 6, 3) := dk_154 0 6 (dk_at dksX0_mansKept_0 18 rfl rfl)
theorem dX0_mansKept_21 : decode cX0_mansKept 21 = .ok (.bipush (-2), 2) := dk_16 254 (dk_at dksX0_mansKept_0 21 rfl rfl)
theorem dX0_mansKept_23 : decode cX0_mansKept 23 = .ok (.ireturn, 1) := dk_172 (dk_at dksX0_mansKept_0 23 rfl rfl)
theorem dX0_mansKept_24 : decode cX0_mansKept 24 = .ok (.aload_n 0, 1) := dk_42 (dk_at dksX0_mansKept_1 0 rfl rfl)
theorem dX0_mansKept_25 : decode cX0_mansKept 25 = .ok (.invokevirtual 132, 3) := dk_182 0 132 (dk_at dksX0_mansKept_1 1 rfl rfl)
theorem dX0_mansKept_28 : decode cX0_mansKept 28 = .ok (.iload_n 1, 1) := dk_27 (dk_at dksX0_mansKept_1 4 rfl rfl)
theorem dX0_mansKept_29 : decode cX0_mansKept 29 = .ok (.invokevirtual 155, 3) := dk_182 0 155 (dk_at dksX0_mansKept_1 5 rfl rfl)
theorem dX0_mansKept_32 : decode cX0_mansKept 32 = .ok (.ifCond .ne 23, 3) := dk_154 0 23 (dk_at dksX0_mansKept_1 8 rfl rfl)
theorem dX0_mansKept_35 : decode cX0_mansKept 35 = .ok (.aload_n 0, 1) := dk_42 (dk_at dksX0_mansKept_1 11 rfl rfl)
theorem dX0_mansKept_36 : decode cX0_mansKept 36 = .ok (.invokevirtual 132, 3) := dk_182 0 132 (dk_at dksX0_mansKept_1 12 rfl rfl)
theorem dX0_mansKept_39 : decode cX0_mansKept 39 = .ok (.getfield 135, 3) := dk_180 0 135 (dk_at dksX0_mansKept_1 15 rfl rfl)
theorem dX0_mansKept_42 : decode cX0_mansKept 42 = .ok (.iload_n 1, 1) := dk_27 (dk_at dksX0_mansKept_1 18 rfl rfl)
theorem dX0_mansKept_43 : decode cX0_mansKept 43 = .ok (.iaload, 1) := dk_46 (dk_at dksX0_mansKept_1 19 rfl rfl)
theorem dX0_mansKept_44 : decode cX0_mansKept 44 = .ok (.iload_n 2, 1) := dk_28 (dk_at dksX0_mansKept_1 20 rfl rfl)
theorem dX0_mansKept_45 : decode cX0_mansKept 45 = .ok (.iadd, 1) := dk_96 (dk_at dksX0_mansKept_1 21 rfl rfl)
theorem dX0_mansKept_46 : decode cX0_mansKept 46 = .ok (.iconst 0, 1) := dk_3 (dk_at dksX0_mansKept_1 22 rfl rfl)
theorem dX0_mansKept_47 : decode cX0_mansKept 47 = .ok (.bipush 99, 2) := dk_16 99 (dk_at dksX0_mansKept_2 0 rfl rfl)
theorem dX0_mansKept_49 : decode cX0_mansKept 49 = .ok (.invokestatic 26, 3) := dk_184 0 26 (dk_at dksX0_mansKept_2 2 rfl rfl)
theorem dX0_mansKept_52 : decode cX0_mansKept 52 = .ok (.ifCond .ne 6, 3) := dk_154 0 6 (dk_at dksX0_mansKept_2 5 rfl rfl)
theorem dX0_mansKept_55 : decode cX0_mansKept 55 = .ok (.bipush (-3), 2) := dk_16 253 (dk_at dksX0_mansKept_2 8 rfl rfl)
theorem dX0_mansKept_57 : decode cX0_mansKept 57 = .ok (.ireturn, 1) := dk_172 (dk_at dksX0_mansKept_2 10 rfl rfl)
theorem dX0_mansKept_58 : decode cX0_mansKept 58 = .ok (.aload_n 0, 1) := dk_42 (dk_at dksX0_mansKept_2 11 rfl rfl)
theorem dX0_mansKept_59 : decode cX0_mansKept 59 = .ok (.iconst 2, 1) := dk_5 (dk_at dksX0_mansKept_2 12 rfl rfl)
theorem dX0_mansKept_60 : decode cX0_mansKept 60 = .ok (.invokevirtual 304, 3) := dk_182 1 48 (dk_at dksX0_mansKept_2 13 rfl rfl)
theorem dX0_mansKept_63 : decode cX0_mansKept 63 = .ok (.aload_n 0, 1) := dk_42 (dk_at dksX0_mansKept_2 16 rfl rfl)
theorem dX0_mansKept_64 : decode cX0_mansKept 64 = .ok (.invokevirtual 132, 3) := dk_182 0 132 (dk_at dksX0_mansKept_2 17 rfl rfl)
theorem dX0_mansKept_67 : decode cX0_mansKept 67 = .ok (.getfield 135, 3) := dk_180 0 135 (dk_at dksX0_mansKept_2 20 rfl rfl)
theorem dX0_mansKept_70 : decode cX0_mansKept 70 = .ok (.iload_n 1, 1) := dk_27 (dk_at dksX0_mansKept_2 23 rfl rfl)
theorem dX0_mansKept_71 : decode cX0_mansKept 71 = .ok (.dup2, 1) := dk_92 (dk_at dksX0_mansKept_3 0 rfl rfl)
theorem dX0_mansKept_72 : decode cX0_mansKept 72 = .ok (.iaload, 1) := dk_46 (dk_at dksX0_mansKept_3 1 rfl rfl)
theorem dX0_mansKept_73 : decode cX0_mansKept 73 = .ok (.iload_n 2, 1) := dk_28 (dk_at dksX0_mansKept_3 2 rfl rfl)
theorem dX0_mansKept_74 : decode cX0_mansKept 74 = .ok (.iadd, 1) := dk_96 (dk_at dksX0_mansKept_3 3 rfl rfl)
theorem dX0_mansKept_75 : decode cX0_mansKept 75 = .ok (.iastore, 1) := dk_79 (dk_at dksX0_mansKept_3 4 rfl rfl)
theorem dX0_mansKept_76 : decode cX0_mansKept 76 = .ok (.aload_n 0, 1) := dk_42 (dk_at dksX0_mansKept_3 5 rfl rfl)
theorem dX0_mansKept_77 : decode cX0_mansKept 77 = .ok (.invokevirtual 132, 3) := dk_182 0 132 (dk_at dksX0_mansKept_3 6 rfl rfl)
theorem dX0_mansKept_80 : decode cX0_mansKept 80 = .ok (.getfield 135, 3) := dk_180 0 135 (dk_at dksX0_mansKept_3 9 rfl rfl)
theorem dX0_mansKept_83 : decode cX0_mansKept 83 = .ok (.iload_n 1, 1) := dk_27 (dk_at dksX0_mansKept_3 12 rfl rfl)
theorem dX0_mansKept_84 : decode cX0_mansKept 84 = .ok (.iaload, 1) := dk_46 (dk_at dksX0_mansKept_3 13 rfl rfl)
theorem dX0_mansKept_85 : decode cX0_mansKept 85 = .ok (.ireturn, 1) := dk_172 (dk_at dksX0_mansKept_3 14 rfl rfl)
abbrev cX0_march : ByteArray := prog_1_method_55_code
def yX0_march : MethodName := ⟨RX0, "march", "(II)I"⟩
def dkwX0_march_0 : List UInt8 := [42, 42, 27, 28, 182, 1, 68, 182, 1, 59, 172]
abbrev dktX0_march_0 : List UInt8 := dkwX0_march_0 ++ []
theorem dksX0_march_0 : cX0_march.data.toList.drop 0 = dktX0_march_0 := by decide +kernel
theorem dX0_march_0 : decode cX0_march 0 = .ok (.aload_n 0, 1) := dk_42 (dk_at dksX0_march_0 0 rfl rfl)
theorem dX0_march_1 : decode cX0_march 1 = .ok (.aload_n 0, 1) := dk_42 (dk_at dksX0_march_0 1 rfl rfl)
theorem dX0_march_2 : decode cX0_march 2 = .ok (.iload_n 1, 1) := dk_27 (dk_at dksX0_march_0 2 rfl rfl)
theorem dX0_march_3 : decode cX0_march 3 = .ok (.iload_n 2, 1) := dk_28 (dk_at dksX0_march_0 3 rfl rfl)
theorem dX0_march_4 : decode cX0_march 4 = .ok (.invokevirtual 324, 3) := dk_182 1 68 (dk_at dksX0_march_0 4 rfl rfl)
theorem dX0_march_7 : decode cX0_march 7 = .ok (.invokevirtual 315, 3) := dk_182 1 59 (dk_at dksX0_march_0 7 rfl rfl)
theorem dX0_march_10 : decode cX0_march 10 = .ok (.ireturn, 1) := dk_172 (dk_at dksX0_march_0 10 rfl rfl)
abbrev cX0_marchesKept : ByteArray := prog_1_method_50_code
def yX0_marchesKept : MethodName := ⟨RX0, "marchesKept", "(II)I"⟩
def dkwX0_marchesKept_2 : List UInt8 := [6, 182, 1, 48, 42, 42, 182, 0, 132, 27, 28, 182, 1, 53, 172]
abbrev dktX0_marchesKept_2 : List UInt8 := dkwX0_marchesKept_2 ++ []
def dkwX0_marchesKept_1 : List UInt8 := [28, 182, 0, 155, 154, 0, 16, 42, 182, 0, 132, 180, 0, 180, 17, 3, 231, 160, 0, 6, 16, 253, 172, 42]
abbrev dktX0_marchesKept_1 : List UInt8 := dkwX0_marchesKept_1 ++ dktX0_marchesKept_2
def dkwX0_marchesKept_0 : List UInt8 := [27, 184, 1, 26, 154, 0, 5, 2, 172, 42, 28, 182, 0, 152, 154, 0, 6, 16, 254, 172, 42, 182, 0, 132]
abbrev dktX0_marchesKept_0 : List UInt8 := dkwX0_marchesKept_0 ++ dktX0_marchesKept_1
theorem dksX0_marchesKept_0 : cX0_marchesKept.data.toList.drop 0 = dktX0_marchesKept_0 := by decide +kernel
theorem dksX0_marchesKept_1 : cX0_marchesKept.data.toList.drop 24 = dktX0_marchesKept_1 := dk_seg dksX0_marchesKept_0 24 rfl rfl
theorem dksX0_marchesKept_2 : cX0_marchesKept.data.toList.drop 48 = dktX0_marchesKept_2 := dk_seg dksX0_marchesKept_1 24 rfl rfl
theorem dX0_marchesKept_0 : decode cX0_marchesKept 0 = .ok (.iload_n 1, 1) := dk_27 (dk_at dksX0_marchesKept_0 0 rfl rfl)
theorem dX0_marchesKept_1 : decode cX0_marchesKept 1 = .ok (.invokestatic 282, 3) := dk_184 1 26 (dk_at dksX0_marchesKept_0 1 rfl rfl)
theorem dX0_marchesKept_4 : decode cX0_marchesKept 4 = .ok (.ifCond .ne 5, 3) := dk_154 0 5 (dk_at dksX0_marchesKept_0 4 rfl rfl)
theorem dX0_marchesKept_7 : decode cX0_marchesKept 7 = .ok (.iconst (-1), 1) := dk_2 (dk_at dksX0_marchesKept_0 7 rfl rfl)
theorem dX0_marchesKept_8 : decode cX0_marchesKept 8 = .ok (.ireturn, 1) := dk_172 (dk_at dksX0_marchesKept_0 8 rfl rfl)
theorem dX0_marchesKept_9 : decode cX0_marchesKept 9 = .ok (.aload_n 0, 1) := dk_42 (dk_at dksX0_marchesKept_0 9 rfl rfl)
theorem dX0_marchesKept_10 : decode cX0_marchesKept 10 = .ok (.iload_n 2, 1) := dk_28 (dk_at dksX0_marchesKept_0 10 rfl rfl)
theorem dX0_marchesKept_11 : decode cX0_marchesKept 11 = .ok (.invokevirtual 152, 3) := dk_182 0 152 (dk_at dksX0_marchesKept_0 11 rfl rfl)
theorem dX0_marchesKept_14 : decode cX0_marchesKept 14 = .ok (.ifCond .ne 6, 3) := dk_154 0 6 (dk_at dksX0_marchesKept_0 14 rfl rfl)
theorem dX0_marchesKept_17 : decode cX0_marchesKept 17 = .ok (.bipush (-2), 2) := dk_16 254 (dk_at dksX0_marchesKept_0 17 rfl rfl)
theorem dX0_marchesKept_19 : decode cX0_marchesKept 19 = .ok (.ireturn, 1) := dk_172 (dk_at dksX0_marchesKept_0 19 rfl rfl)
theorem dX0_marchesKept_20 : decode cX0_marchesKept 20 = .ok (.aload_n 0, 1) := dk_42 (dk_at dksX0_marchesKept_0 20 rfl rfl)
theorem dX0_marchesKept_21 : decode cX0_marchesKept 21 = .ok (.invokevirtual 132, 3) := dk_182 0 132 (dk_at dksX0_marchesKept_0 21 rfl rfl)
theorem dX0_marchesKept_24 : decode cX0_marchesKept 24 = .ok (.iload_n 2, 1) := dk_28 (dk_at dksX0_marchesKept_1 0 rfl rfl)
theorem dX0_marchesKept_25 : decode cX0_marchesKept 25 = .ok (.invokevirtual 155, 3) := dk_182 0 155 (dk_at dksX0_marchesKept_1 1 rfl rfl)
theorem dX0_marchesKept_28 : decode cX0_marchesKept 28 = .ok (.ifCond .ne 16, 3) := dk_154 0 16 (dk_at dksX0_marchesKept_1 4 rfl rfl)
theorem dX0_marchesKept_31 : decode cX0_marchesKept 31 = .ok (.aload_n 0, 1) := dk_42 (dk_at dksX0_marchesKept_1 7 rfl rfl)
theorem dX0_marchesKept_32 : decode cX0_marchesKept 32 = .ok (.invokevirtual 132, 3) := dk_182 0 132 (dk_at dksX0_marchesKept_1 8 rfl rfl)
theorem dX0_marchesKept_35 : decode cX0_marchesKept 35 = .ok (.getfield 180, 3) := dk_180 0 180 (dk_at dksX0_marchesKept_1 11 rfl rfl)
theorem dX0_marchesKept_38 : decode cX0_marchesKept 38 = .ok (.sipush 999, 3) := dk_17 3 231 (dk_at dksX0_marchesKept_1 14 rfl rfl)
theorem dX0_marchesKept_41 : decode cX0_marchesKept 41 = .ok (.if_icmp .ne 6, 3) := dk_160 0 6 (dk_at dksX0_marchesKept_1 17 rfl rfl)
theorem dX0_marchesKept_44 : decode cX0_marchesKept 44 = .ok (.bipush (-3), 2) := dk_16 253 (dk_at dksX0_marchesKept_1 20 rfl rfl)
theorem dX0_marchesKept_46 : decode cX0_marchesKept 46 = .ok (.ireturn, 1) := dk_172 (dk_at dksX0_marchesKept_1 22 rfl rfl)
theorem dX0_marchesKept_47 : decode cX0_marchesKept 47 = .ok (.aload_n 0, 1) := dk_42 (dk_at dksX0_marchesKept_1 23 rfl rfl)
theorem dX0_marchesKept_48 : decode cX0_marchesKept 48 = .ok (.iconst 3, 1) := dk_6 (dk_at dksX0_marchesKept_2 0 rfl rfl)
theorem dX0_marchesKept_49 : decode cX0_marchesKept 49 = .ok (.invokevirtual 304, 3) := dk_182 1 48 (dk_at dksX0_marchesKept_2 1 rfl rfl)
theorem dX0_marchesKept_52 : decode cX0_marchesKept 52 = .ok (.aload_n 0, 1) := dk_42 (dk_at dksX0_marchesKept_2 4 rfl rfl)
theorem dX0_marchesKept_53 : decode cX0_marchesKept 53 = .ok (.aload_n 0, 1) := dk_42 (dk_at dksX0_marchesKept_2 5 rfl rfl)
theorem dX0_marchesKept_54 : decode cX0_marchesKept 54 = .ok (.invokevirtual 132, 3) := dk_182 0 132 (dk_at dksX0_marchesKept_2 6 rfl rfl)
theorem dX0_marchesKept_57 : decode cX0_marchesKept 57 = .ok (.iload_n 1, 1) := dk_27 (dk_at dksX0_marchesKept_2 9 rfl rfl)
theorem dX0_marchesKept_58 : decode cX0_marchesKept 58 = .ok (.iload_n 2, 1) := dk_28 (dk_at dksX0_marchesKept_2 10 rfl rfl)
theorem dX0_marchesKept_59 : decode cX0_marchesKept 59 = .ok (.invokevirtual 309, 3) := dk_182 1 53 (dk_at dksX0_marchesKept_2 11 rfl rfl)
theorem dX0_marchesKept_62 : decode cX0_marchesKept 62 = .ok (.ireturn, 1) := dk_172 (dk_at dksX0_marchesKept_2 14 rfl rfl)
abbrev cX0_marches : ByteArray := prog_1_method_45_code
def yX0_marches : MethodName := ⟨RX0, "marches", "(LOpenGates$Table;II)I"⟩
def dkwX0_marches_7 : List UInt8 := [172]
abbrev dktX0_marches_7 : List UInt8 := dkwX0_marches_7 ++ []
def dkwX0_marches_6 : List UInt8 := [184, 1, 18, 96, 133, 3, 16, 100, 184, 1, 10, 79, 43, 89, 180, 0, 180, 4, 96, 181, 0, 180, 21, 4]
abbrev dktX0_marches_6 : List UInt8 := dkwX0_marches_6 ++ dktX0_marches_7
def dkwX0_marches_5 : List UInt8 := [180, 0, 138, 29, 46, 182, 0, 158, 17, 39, 16, 108, 21, 4, 182, 1, 14, 16, 236, 16, 20, 3]
abbrev dktX0_marches_5 : List UInt8 := dkwX0_marches_5 ++ dktX0_marches_6
def dkwX0_marches_4 : List UInt8 := [43, 180, 0, 177, 21, 5, 43, 180, 0, 177, 21, 5, 46, 42, 5, 43, 29, 2, 28, 42, 43, 29, 43]
abbrev dktX0_marches_4 : List UInt8 := dkwX0_marches_4 ++ dktX0_marches_5
def dkwX0_marches_3 : List UInt8 := [180, 0, 135, 29, 46, 28, 6, 108, 100, 184, 1, 40, 79, 42, 180, 0, 43, 180, 0, 129, 29, 46, 54, 5]
abbrev dktX0_marches_3 : List UInt8 := dkwX0_marches_3 ++ dktX0_marches_4
def dkwX0_marches_2 : List UInt8 := [180, 0, 141, 4, 29, 120, 128, 181, 0, 141, 21, 4, 154, 0, 23, 43, 180, 0, 135, 29, 3, 43]
abbrev dktX0_marches_2 : List UInt8 := dkwX0_marches_2 ++ dktX0_marches_3
def dkwX0_marches_1 : List UInt8 := [180, 0, 135, 29, 46, 164, 0, 7, 5, 167, 0, 4, 3, 54, 4, 21, 4, 5, 160, 0, 15, 43, 89]
abbrev dktX0_marches_1 : List UInt8 := dkwX0_marches_1 ++ dktX0_marches_2
def dkwX0_marches_0 : List UInt8 := [42, 43, 29, 28, 43, 180, 0, 138, 29, 46, 182, 1, 36, 153, 0, 7, 4, 167, 0, 18, 28, 43]
abbrev dktX0_marches_0 : List UInt8 := dkwX0_marches_0 ++ dktX0_marches_1
theorem dksX0_marches_0 : cX0_marches.data.toList.drop 0 = dktX0_marches_0 := by decide +kernel
theorem dksX0_marches_1 : cX0_marches.data.toList.drop 22 = dktX0_marches_1 := dk_seg dksX0_marches_0 22 rfl rfl
theorem dksX0_marches_2 : cX0_marches.data.toList.drop 45 = dktX0_marches_2 := dk_seg dksX0_marches_1 23 rfl rfl
theorem dksX0_marches_3 : cX0_marches.data.toList.drop 67 = dktX0_marches_3 := dk_seg dksX0_marches_2 22 rfl rfl
theorem dksX0_marches_4 : cX0_marches.data.toList.drop 91 = dktX0_marches_4 := dk_seg dksX0_marches_3 24 rfl rfl
theorem dksX0_marches_5 : cX0_marches.data.toList.drop 114 = dktX0_marches_5 := dk_seg dksX0_marches_4 23 rfl rfl
theorem dksX0_marches_6 : cX0_marches.data.toList.drop 136 = dktX0_marches_6 := dk_seg dksX0_marches_5 22 rfl rfl
theorem dksX0_marches_7 : cX0_marches.data.toList.drop 160 = dktX0_marches_7 := dk_seg dksX0_marches_6 24 rfl rfl
theorem dX0_marches_0 : decode cX0_marches 0 = .ok (.aload_n 0, 1) := dk_42 (dk_at dksX0_marches_0 0 rfl rfl)
theorem dX0_marches_1 : decode cX0_marches 1 = .ok (.aload_n 1, 1) := dk_43 (dk_at dksX0_marches_0 1 rfl rfl)
theorem dX0_marches_2 : decode cX0_marches 2 = .ok (.iload_n 3, 1) := dk_29 (dk_at dksX0_marches_0 2 rfl rfl)
theorem dX0_marches_3 : decode cX0_marches 3 = .ok (.iload_n 2, 1) := dk_28 (dk_at dksX0_marches_0 3 rfl rfl)
theorem dX0_marches_4 : decode cX0_marches 4 = .ok (.aload_n 1, 1) := dk_43 (dk_at dksX0_marches_0 4 rfl rfl)
theorem dX0_marches_5 : decode cX0_marches 5 = .ok (.getfield 138, 3) := dk_180 0 138 (dk_at dksX0_marches_0 5 rfl rfl)
theorem dX0_marches_8 : decode cX0_marches 8 = .ok (.iload_n 3, 1) := dk_29 (dk_at dksX0_marches_0 8 rfl rfl)
theorem dX0_marches_9 : decode cX0_marches 9 = .ok (.iaload, 1) := dk_46 (dk_at dksX0_marches_0 9 rfl rfl)
theorem dX0_marches_10 : decode cX0_marches 10 = .ok (.invokevirtual 292, 3) := dk_182 1 36 (dk_at dksX0_marches_0 10 rfl rfl)
theorem dX0_marches_13 : decode cX0_marches 13 = .ok (.ifCond .eq 7, 3) := dk_153 0 7 (dk_at dksX0_marches_0 13 rfl rfl)
theorem dX0_marches_16 : decode cX0_marches 16 = .ok (.iconst 1, 1) := dk_4 (dk_at dksX0_marches_0 16 rfl rfl)
theorem dX0_marches_17 : decode cX0_marches 17 = .ok (.goto 18, 3) := dk_167 0 18 (dk_at dksX0_marches_0 17 rfl rfl)
theorem dX0_marches_20 : decode cX0_marches 20 = .ok (.iload_n 2, 1) := dk_28 (dk_at dksX0_marches_0 20 rfl rfl)
theorem dX0_marches_21 : decode cX0_marches 21 = .ok (.aload_n 1, 1) := dk_43 (dk_at dksX0_marches_0 21 rfl rfl)
theorem dX0_marches_22 : decode cX0_marches 22 = .ok (.getfield 135, 3) := dk_180 0 135 (dk_at dksX0_marches_1 0 rfl rfl)
theorem dX0_marches_25 : decode cX0_marches 25 = .ok (.iload_n 3, 1) := dk_29 (dk_at dksX0_marches_1 3 rfl rfl)
theorem dX0_marches_26 : decode cX0_marches 26 = .ok (.iaload, 1) := dk_46 (dk_at dksX0_marches_1 4 rfl rfl)
theorem dX0_marches_27 : decode cX0_marches 27 = .ok (.if_icmp .le 7, 3) := dk_164 0 7 (dk_at dksX0_marches_1 5 rfl rfl)
theorem dX0_marches_30 : decode cX0_marches 30 = .ok (.iconst 2, 1) := dk_5 (dk_at dksX0_marches_1 8 rfl rfl)
theorem dX0_marches_31 : decode cX0_marches 31 = .ok (.goto 4, 3) := dk_167 0 4 (dk_at dksX0_marches_1 9 rfl rfl)
theorem dX0_marches_34 : decode cX0_marches 34 = .ok (.iconst 0, 1) := dk_3 (dk_at dksX0_marches_1 12 rfl rfl)
theorem dX0_marches_35 : decode cX0_marches 35 = .ok (.istore 4, 2) := dk_54 4 (dk_at dksX0_marches_1 13 rfl rfl)
theorem dX0_marches_37 : decode cX0_marches 37 = .ok (.iload 4, 2) := dk_21 4 (dk_at dksX0_marches_1 15 rfl rfl)
theorem dX0_marches_39 : decode cX0_marches 39 = .ok (.iconst 2, 1) := dk_5 (dk_at dksX0_marches_1 17 rfl rfl)
theorem dX0_marches_40 : decode cX0_marches 40 = .ok (.if_icmp .ne 15, 3) := dk_160 0 15 (dk_at dksX0_marches_1 18 rfl rfl)
theorem dX0_marches_43 : decode cX0_marches 43 = .ok (.aload_n 1, 1) := dk_43 (dk_at dksX0_marches_1 21 rfl rfl)
theorem dX0_marches_44 : decode cX0_marches 44 = .ok (.dup, 1) := dk_89 (dk_at dksX0_marches_1 22 rfl rfl)
theorem dX0_marches_45 : decode cX0_marches 45 = .ok (.getfield 141, 3) := dk_180 0 141 (dk_at dksX0_marches_2 0 rfl rfl)
theorem dX0_marches_48 : decode cX0_marches 48 = .ok (.iconst 1, 1) := dk_4 (dk_at dksX0_marches_2 3 rfl rfl)
theorem dX0_marches_49 : decode cX0_marches 49 = .ok (.iload_n 3, 1) := dk_29 (dk_at dksX0_marches_2 4 rfl rfl)
theorem dX0_marches_50 : decode cX0_marches 50 = .ok (.ishl, 1) := dk_120 (dk_at dksX0_marches_2 5 rfl rfl)
theorem dX0_marches_51 : decode cX0_marches 51 = .ok (.ior, 1) := dk_128 (dk_at dksX0_marches_2 6 rfl rfl)
theorem dX0_marches_52 : decode cX0_marches 52 = .ok (.putfield 141, 3) := dk_181 0 141 (dk_at dksX0_marches_2 7 rfl rfl)
theorem dX0_marches_55 : decode cX0_marches 55 = .ok (.iload 4, 2) := dk_21 4 (dk_at dksX0_marches_2 10 rfl rfl)
theorem dX0_marches_57 : decode cX0_marches 57 = .ok (.ifCond .ne 23, 3) := dk_154 0 23 (dk_at dksX0_marches_2 12 rfl rfl)
theorem dX0_marches_60 : decode cX0_marches 60 = .ok (.aload_n 1, 1) := dk_43 (dk_at dksX0_marches_2 15 rfl rfl)
theorem dX0_marches_61 : decode cX0_marches 61 = .ok (.getfield 135, 3) := dk_180 0 135 (dk_at dksX0_marches_2 16 rfl rfl)
theorem dX0_marches_64 : decode cX0_marches 64 = .ok (.iload_n 3, 1) := dk_29 (dk_at dksX0_marches_2 19 rfl rfl)
theorem dX0_marches_65 : decode cX0_marches 65 = .ok (.iconst 0, 1) := dk_3 (dk_at dksX0_marches_2 20 rfl rfl)
theorem dX0_marches_66 : decode cX0_marches 66 = .ok (.aload_n 1, 1) := dk_43 (dk_at dksX0_marches_2 21 rfl rfl)
theorem dX0_marches_67 : decode cX0_marches 67 = .ok (.getfield 135, 3) := dk_180 0 135 (dk_at dksX0_marches_3 0 rfl rfl)
theorem dX0_marches_70 : decode cX0_marches 70 = .ok (.iload_n 3, 1) := dk_29 (dk_at dksX0_marches_3 3 rfl rfl)
theorem dX0_marches_71 : decode cX0_marches 71 = .ok (.iaload, 1) := dk_46 (dk_at dksX0_marches_3 4 rfl rfl)
theorem dX0_marches_72 : decode cX0_marches 72 = .ok (.iload_n 2, 1) := dk_28 (dk_at dksX0_marches_3 5 rfl rfl)
theorem dX0_marches_73 : decode cX0_marches 73 = .ok (.iconst 3, 1) := dk_6 (dk_at dksX0_marches_3 6 rfl rfl)
theorem dX0_marches_74 : decode cX0_marches 74 = .ok (.idiv, 1) := dk_108 (dk_at dksX0_marches_3 7 rfl rfl)
theorem dX0_marches_75 : decode cX0_marches 75 = .ok (.isub, 1) := dk_100 (dk_at dksX0_marches_3 8 rfl rfl)
theorem dX0_marches_76 : decode cX0_marches 76 = .ok (.invokestatic 296, 3) := dk_184 1 40 (dk_at dksX0_marches_3 9 rfl rfl)
theorem dX0_marches_79 : decode cX0_marches 79 = .ok (.iastore, 1) := dk_79 (dk_at dksX0_marches_3 12 rfl rfl)
theorem dX0_marches_80 : decode cX0_marches 80 = .ok (.aload_n 0, 1) := dk_42 (dk_at dksX0_marches_3 13 rfl rfl)
theorem dX0_marches_81 : decode cX0_marches 81 = .ok (.getfield 43, 3) := dk_180 0 43 (dk_at dksX0_marches_3 14 rfl rfl)
theorem dX0_marches_84 : decode cX0_marches 84 = .ok (.getfield 129, 3) := dk_180 0 129 (dk_at dksX0_marches_3 17 rfl rfl)
theorem dX0_marches_87 : decode cX0_marches 87 = .ok (.iload_n 3, 1) := dk_29 (dk_at dksX0_marches_3 20 rfl rfl)
theorem dX0_marches_88 : decode cX0_marches 88 = .ok (.iaload, 1) := dk_46 (dk_at dksX0_marches_3 21 rfl rfl)
theorem dX0_marches_89 : decode cX0_marches 89 = .ok (.istore 5, 2) := dk_54 5 (dk_at dksX0_marches_3 22 rfl rfl)
theorem dX0_marches_91 : decode cX0_marches 91 = .ok (.aload_n 1, 1) := dk_43 (dk_at dksX0_marches_4 0 rfl rfl)
theorem dX0_marches_92 : decode cX0_marches 92 = .ok (.getfield 177, 3) := dk_180 0 177 (dk_at dksX0_marches_4 1 rfl rfl)
theorem dX0_marches_95 : decode cX0_marches 95 = .ok (.iload 5, 2) := dk_21 5 (dk_at dksX0_marches_4 4 rfl rfl)
theorem dX0_marches_97 : decode cX0_marches 97 = .ok (.aload_n 1, 1) := dk_43 (dk_at dksX0_marches_4 6 rfl rfl)
theorem dX0_marches_98 : decode cX0_marches 98 = .ok (.getfield 177, 3) := dk_180 0 177 (dk_at dksX0_marches_4 7 rfl rfl)
theorem dX0_marches_101 : decode cX0_marches 101 = .ok (.iload 5, 2) := dk_21 5 (dk_at dksX0_marches_4 10 rfl rfl)
theorem dX0_marches_103 : decode cX0_marches 103 = .ok (.iaload, 1) := dk_46 (dk_at dksX0_marches_4 12 rfl rfl)
theorem dX0_marches_104 : decode cX0_marches 104 = .ok (.aload_n 0, 1) := dk_42 (dk_at dksX0_marches_4 13 rfl rfl)
theorem dX0_marches_105 : decode cX0_marches 105 = .ok (.iconst 2, 1) := dk_5 (dk_at dksX0_marches_4 14 rfl rfl)
theorem dX0_marches_106 : decode cX0_marches 106 = .ok (.aload_n 1, 1) := dk_43 (dk_at dksX0_marches_4 15 rfl rfl)
theorem dX0_marches_107 : decode cX0_marches 107 = .ok (.iload_n 3, 1) := dk_29 (dk_at dksX0_marches_4 16 rfl rfl)
theorem dX0_marches_108 : decode cX0_marches 108 = .ok (.iconst (-1), 1) := dk_2 (dk_at dksX0_marches_4 17 rfl rfl)
theorem dX0_marches_109 : decode cX0_marches 109 = .ok (.iload_n 2, 1) := dk_28 (dk_at dksX0_marches_4 18 rfl rfl)
theorem dX0_marches_110 : decode cX0_marches 110 = .ok (.aload_n 0, 1) := dk_42 (dk_at dksX0_marches_4 19 rfl rfl)
theorem dX0_marches_111 : decode cX0_marches 111 = .ok (.aload_n 1, 1) := dk_43 (dk_at dksX0_marches_4 20 rfl rfl)
theorem dX0_marches_112 : decode cX0_marches 112 = .ok (.iload_n 3, 1) := dk_29 (dk_at dksX0_marches_4 21 rfl rfl)
theorem dX0_marches_113 : decode cX0_marches 113 = .ok (.aload_n 1, 1) := dk_43 (dk_at dksX0_marches_4 22 rfl rfl)
theorem dX0_marches_114 : decode cX0_marches 114 = .ok (.getfield 138, 3) := dk_180 0 138 (dk_at dksX0_marches_5 0 rfl rfl)
theorem dX0_marches_117 : decode cX0_marches 117 = .ok (.iload_n 3, 1) := dk_29 (dk_at dksX0_marches_5 3 rfl rfl)
theorem dX0_marches_118 : decode cX0_marches 118 = .ok (.iaload, 1) := dk_46 (dk_at dksX0_marches_5 4 rfl rfl)
theorem dX0_marches_119 : decode cX0_marches 119 = .ok (.invokevirtual 158, 3) := dk_182 0 158 (dk_at dksX0_marches_5 5 rfl rfl)
theorem dX0_marches_122 : decode cX0_marches 122 = .ok (.sipush 10000, 3) := dk_17 39 16 (dk_at dksX0_marches_5 8 rfl rfl)
theorem dX0_marches_125 : decode cX0_marches 125 = .ok (.idiv, 1) := dk_108 (dk_at dksX0_marches_5 11 rfl rfl)
theorem dX0_marches_126 : decode cX0_marches 126 = .ok (.iload 4, 2) := dk_21 4 (dk_at dksX0_marches_5 12 rfl rfl)
theorem dX0_marches_128 : decode cX0_marches 128 = .ok (.invokevirtual 270, 3) := dk_182 1 14 (dk_at dksX0_marches_5 14 rfl rfl)
theorem dX0_marches_131 : decode cX0_marches 131 = .ok (.bipush (-20), 2) := dk_16 236 (dk_at dksX0_marches_5 17 rfl rfl)
theorem dX0_marches_133 : decode cX0_marches 133 = .ok (.bipush 20, 2) := dk_16 20 (dk_at dksX0_marches_5 19 rfl rfl)
theorem dX0_marches_135 : decode cX0_marches 135 = .ok (.iconst 0, 1) := dk_3 (dk_at dksX0_marches_5 21 rfl rfl)
theorem dX0_marches_136 : decode cX0_marches 136 = .ok (.invokestatic 274, 3) := dk_184 1 18 (dk_at dksX0_marches_6 0 rfl rfl)
theorem dX0_marches_139 : decode cX0_marches 139 = .ok (.iadd, 1) := dk_96 (dk_at dksX0_marches_6 3 rfl rfl)
theorem dX0_marches_140 : decode cX0_marches 140 = .ok (.i2l, 1) := dk_133 (dk_at dksX0_marches_6 4 rfl rfl)
theorem dX0_marches_141 : decode cX0_marches 141 = .ok (.iconst 0, 1) := dk_3 (dk_at dksX0_marches_6 5 rfl rfl)
theorem dX0_marches_142 : decode cX0_marches 142 = .ok (.bipush 100, 2) := dk_16 100 (dk_at dksX0_marches_6 6 rfl rfl)
theorem dX0_marches_144 : decode cX0_marches 144 = .ok (.invokestatic 266, 3) := dk_184 1 10 (dk_at dksX0_marches_6 8 rfl rfl)
theorem dX0_marches_147 : decode cX0_marches 147 = .ok (.iastore, 1) := dk_79 (dk_at dksX0_marches_6 11 rfl rfl)
theorem dX0_marches_148 : decode cX0_marches 148 = .ok (.aload_n 1, 1) := dk_43 (dk_at dksX0_marches_6 12 rfl rfl)
theorem dX0_marches_149 : decode cX0_marches 149 = .ok (.dup, 1) := dk_89 (dk_at dksX0_marches_6 13 rfl rfl)
theorem dX0_marches_150 : decode cX0_marches 150 = .ok (.getfield 180, 3) := dk_180 0 180 (dk_at dksX0_marches_6 14 rfl rfl)
theorem dX0_marches_153 : decode cX0_marches 153 = .ok (.iconst 1, 1) := dk_4 (dk_at dksX0_marches_6 17 rfl rfl)
theorem dX0_marches_154 : decode cX0_marches 154 = .ok (.iadd, 1) := dk_96 (dk_at dksX0_marches_6 18 rfl rfl)
theorem dX0_marches_155 : decode cX0_marches 155 = .ok (.putfield 180, 3) := dk_181 0 180 (dk_at dksX0_marches_6 19 rfl rfl)
theorem dX0_marches_158 : decode cX0_marches 158 = .ok (.iload 4, 2) := dk_21 4 (dk_at dksX0_marches_6 22 rfl rfl)
theorem dX0_marches_160 : decode cX0_marches 160 = .ok (.ireturn, 1) := dk_172 (dk_at dksX0_marches_7 0 rfl rfl)
abbrev cX0_undo : ByteArray := prog_1_method_56_code
def yX0_undo : MethodName := ⟨RX0, "undo", "()I"⟩
def dkwX0_undo_2 : List UInt8 := [180, 0, 106, 46, 182, 0, 109, 172]
abbrev dktX0_undo_2 : List UInt8 := dkwX0_undo_2 ++ []
def dkwX0_undo_1 : List UInt8 := [42, 182, 0, 132, 42, 180, 0, 53, 42, 180, 0, 106, 50, 182, 1, 42, 42, 42, 180, 0, 60, 42]
abbrev dktX0_undo_1 : List UInt8 := dkwX0_undo_1 ++ dktX0_undo_2
def dkwX0_undo_0 : List UInt8 := [42, 180, 0, 106, 154, 0, 10, 42, 16, 253, 182, 0, 115, 172, 42, 89, 180, 0, 106, 4, 100, 181, 0, 106]
abbrev dktX0_undo_0 : List UInt8 := dkwX0_undo_0 ++ dktX0_undo_1
theorem dksX0_undo_0 : cX0_undo.data.toList.drop 0 = dktX0_undo_0 := by decide +kernel
theorem dksX0_undo_1 : cX0_undo.data.toList.drop 24 = dktX0_undo_1 := dk_seg dksX0_undo_0 24 rfl rfl
theorem dksX0_undo_2 : cX0_undo.data.toList.drop 46 = dktX0_undo_2 := dk_seg dksX0_undo_1 22 rfl rfl
theorem dX0_undo_0 : decode cX0_undo 0 = .ok (.aload_n 0, 1) := dk_42 (dk_at dksX0_undo_0 0 rfl rfl)
theorem dX0_undo_1 : decode cX0_undo 1 = .ok (.getfield 106, 3) := dk_180 0 106 (dk_at dksX0_undo_0 1 rfl rfl)
theorem dX0_undo_4 : decode cX0_undo 4 = .ok (.ifCond .ne 10, 3) := dk_154 0 10 (dk_at dksX0_undo_0 4 rfl rfl)
theorem dX0_undo_7 : decode cX0_undo 7 = .ok (.aload_n 0, 1) := dk_42 (dk_at dksX0_undo_0 7 rfl rfl)
theorem dX0_undo_8 : decode cX0_undo 8 = .ok (.bipush (-3), 2) := dk_16 253 (dk_at dksX0_undo_0 8 rfl rfl)
theorem dX0_undo_10 : decode cX0_undo 10 = .ok (.invokevirtual 115, 3) := dk_182 0 115 (dk_at dksX0_undo_0 10 rfl rfl)
theorem dX0_undo_13 : decode cX0_undo 13 = .ok (.ireturn, 1) := dk_172 (dk_at dksX0_undo_0 13 rfl rfl)
theorem dX0_undo_14 : decode cX0_undo 14 = .ok (.aload_n 0, 1) := dk_42 (dk_at dksX0_undo_0 14 rfl rfl)
theorem dX0_undo_15 : decode cX0_undo 15 = .ok (.dup, 1) := dk_89 (dk_at dksX0_undo_0 15 rfl rfl)
theorem dX0_undo_16 : decode cX0_undo 16 = .ok (.getfield 106, 3) := dk_180 0 106 (dk_at dksX0_undo_0 16 rfl rfl)
theorem dX0_undo_19 : decode cX0_undo 19 = .ok (.iconst 1, 1) := dk_4 (dk_at dksX0_undo_0 19 rfl rfl)
theorem dX0_undo_20 : decode cX0_undo 20 = .ok (.isub, 1) := dk_100 (dk_at dksX0_undo_0 20 rfl rfl)
theorem dX0_undo_21 : decode cX0_undo 21 = .ok (.putfield 106, 3) := dk_181 0 106 (dk_at dksX0_undo_0 21 rfl rfl)
theorem dX0_undo_24 : decode cX0_undo 24 = .ok (.aload_n 0, 1) := dk_42 (dk_at dksX0_undo_1 0 rfl rfl)
theorem dX0_undo_25 : decode cX0_undo 25 = .ok (.invokevirtual 132, 3) := dk_182 0 132 (dk_at dksX0_undo_1 1 rfl rfl)
theorem dX0_undo_28 : decode cX0_undo 28 = .ok (.aload_n 0, 1) := dk_42 (dk_at dksX0_undo_1 4 rfl rfl)
theorem dX0_undo_29 : decode cX0_undo 29 = .ok (.getfield 53, 3) := dk_180 0 53 (dk_at dksX0_undo_1 5 rfl rfl)
theorem dX0_undo_32 : decode cX0_undo 32 = .ok (.aload_n 0, 1) := dk_42 (dk_at dksX0_undo_1 8 rfl rfl)
theorem dX0_undo_33 : decode cX0_undo 33 = .ok (.getfield 106, 3) := dk_180 0 106 (dk_at dksX0_undo_1 9 rfl rfl)
theorem dX0_undo_36 : decode cX0_undo 36 = .ok (.aaload, 1) := dk_50 (dk_at dksX0_undo_1 12 rfl rfl)
theorem dX0_undo_37 : decode cX0_undo 37 = .ok (.invokevirtual 298, 3) := dk_182 1 42 (dk_at dksX0_undo_1 13 rfl rfl)
theorem dX0_undo_40 : decode cX0_undo 40 = .ok (.aload_n 0, 1) := dk_42 (dk_at dksX0_undo_1 16 rfl rfl)
theorem dX0_undo_41 : decode cX0_undo 41 = .ok (.aload_n 0, 1) := dk_42 (dk_at dksX0_undo_1 17 rfl rfl)
theorem dX0_undo_42 : decode cX0_undo 42 = .ok (.getfield 60, 3) := dk_180 0 60 (dk_at dksX0_undo_1 18 rfl rfl)
theorem dX0_undo_45 : decode cX0_undo 45 = .ok (.aload_n 0, 1) := dk_42 (dk_at dksX0_undo_1 21 rfl rfl)
theorem dX0_undo_46 : decode cX0_undo 46 = .ok (.getfield 106, 3) := dk_180 0 106 (dk_at dksX0_undo_2 0 rfl rfl)
theorem dX0_undo_49 : decode cX0_undo 49 = .ok (.iaload, 1) := dk_46 (dk_at dksX0_undo_2 3 rfl rfl)
theorem dX0_undo_50 : decode cX0_undo 50 = .ok (.invokevirtual 109, 3) := dk_182 0 109 (dk_at dksX0_undo_2 4 rfl rfl)
theorem dX0_undo_53 : decode cX0_undo 53 = .ok (.ireturn, 1) := dk_172 (dk_at dksX0_undo_2 7 rfl rfl)
abbrev cX0_bluff : ByteArray := prog_1_method_57_code
def yX0_bluff : MethodName := ⟨RX0, "bluff", "(III)I"⟩
def dkwX0_bluff_9 : List UInt8 := [21, 5, 2, 159, 0, 8, 29, 4, 160, 0, 8, 21, 5, 167, 0, 5, 21, 6, 172]
abbrev dktX0_bluff_9 : List UInt8 := dkwX0_bluff_9 ++ []
def dkwX0_bluff_8 : List UInt8 := [182, 1, 36, 154, 0, 6, 167, 0, 11, 21, 8, 54, 6, 21, 7, 54, 5, 132, 7, 1, 167, 255, 155]
abbrev dktX0_bluff_8 : List UInt8 := dkwX0_bluff_8 ++ dktX0_bluff_9
def dkwX0_bluff_7 : List UInt8 := [132, 9, 1, 167, 255, 220, 21, 8, 21, 6, 162, 0, 29, 42, 42, 182, 0, 132, 27, 28, 21, 7]
abbrev dktX0_bluff_7 : List UInt8 := dkwX0_bluff_7 ++ dktX0_bluff_8
def dkwX0_bluff_6 : List UInt8 := [21, 9, 184, 0, 245, 153, 0, 13, 42, 27, 21, 9, 182, 1, 29, 167, 0, 4, 3, 96, 54, 8]
abbrev dktX0_bluff_6 : List UInt8 := dkwX0_bluff_6 ++ dktX0_bluff_7
def dkwX0_bluff_5 : List UInt8 := [153, 0, 6, 167, 0, 81, 3, 54, 8, 3, 54, 9, 21, 9, 16, 6, 162, 0, 35, 21, 8, 21, 7]
abbrev dktX0_bluff_5 : List UInt8 := dkwX0_bluff_5 ++ dktX0_bluff_6
def dkwX0_bluff_4 : List UInt8 := [19, 1, 71, 54, 6, 3, 54, 7, 21, 7, 16, 64, 162, 0, 100, 21, 7, 21, 4, 2, 130, 126]
abbrev dktX0_bluff_4 : List UInt8 := dkwX0_bluff_4 ++ dktX0_bluff_5
def dkwX0_bluff_3 : List UInt8 := [153, 0, 7, 3, 167, 0, 7, 4, 21, 5, 120, 128, 54, 4, 132, 5, 1, 167, 255, 219, 2, 54, 5]
abbrev dktX0_bluff_3 : List UInt8 := dkwX0_bluff_3 ++ dktX0_bluff_4
def dkwX0_bluff_2 : List UInt8 := [3, 54, 5, 21, 5, 16, 6, 162, 0, 36, 21, 4, 42, 42, 182, 0, 132, 27, 21, 5, 182, 1, 32]
abbrev dktX0_bluff_2 : List UInt8 := dkwX0_bluff_2 ++ dktX0_bluff_3
def dkwX0_bluff_1 : List UInt8 := [42, 182, 0, 132, 27, 182, 0, 155, 153, 0, 5, 2, 172, 42, 182, 0, 132, 180, 0, 138, 27, 46, 54, 4]
abbrev dktX0_bluff_1 : List UInt8 := dkwX0_bluff_1 ++ dktX0_bluff_2
def dkwX0_bluff_0 : List UInt8 := [42, 27, 182, 0, 152, 153, 0, 30, 28, 184, 1, 26, 153, 0, 23, 29, 3, 4, 184, 0, 26, 153, 0, 14]
abbrev dktX0_bluff_0 : List UInt8 := dkwX0_bluff_0 ++ dktX0_bluff_1
theorem dksX0_bluff_0 : cX0_bluff.data.toList.drop 0 = dktX0_bluff_0 := by decide +kernel
theorem dksX0_bluff_1 : cX0_bluff.data.toList.drop 24 = dktX0_bluff_1 := dk_seg dksX0_bluff_0 24 rfl rfl
theorem dksX0_bluff_2 : cX0_bluff.data.toList.drop 48 = dktX0_bluff_2 := dk_seg dksX0_bluff_1 24 rfl rfl
theorem dksX0_bluff_3 : cX0_bluff.data.toList.drop 71 = dktX0_bluff_3 := dk_seg dksX0_bluff_2 23 rfl rfl
theorem dksX0_bluff_4 : cX0_bluff.data.toList.drop 94 = dktX0_bluff_4 := dk_seg dksX0_bluff_3 23 rfl rfl
theorem dksX0_bluff_5 : cX0_bluff.data.toList.drop 116 = dktX0_bluff_5 := dk_seg dksX0_bluff_4 22 rfl rfl
theorem dksX0_bluff_6 : cX0_bluff.data.toList.drop 139 = dktX0_bluff_6 := dk_seg dksX0_bluff_5 23 rfl rfl
theorem dksX0_bluff_7 : cX0_bluff.data.toList.drop 161 = dktX0_bluff_7 := dk_seg dksX0_bluff_6 22 rfl rfl
theorem dksX0_bluff_8 : cX0_bluff.data.toList.drop 183 = dktX0_bluff_8 := dk_seg dksX0_bluff_7 22 rfl rfl
theorem dksX0_bluff_9 : cX0_bluff.data.toList.drop 206 = dktX0_bluff_9 := dk_seg dksX0_bluff_8 23 rfl rfl
theorem dX0_bluff_0 : decode cX0_bluff 0 = .ok (.aload_n 0, 1) := dk_42 (dk_at dksX0_bluff_0 0 rfl rfl)
theorem dX0_bluff_1 : decode cX0_bluff 1 = .ok (.iload_n 1, 1) := dk_27 (dk_at dksX0_bluff_0 1 rfl rfl)
theorem dX0_bluff_2 : decode cX0_bluff 2 = .ok (.invokevirtual 152, 3) := dk_182 0 152 (dk_at dksX0_bluff_0 2 rfl rfl)
theorem dX0_bluff_5 : decode cX0_bluff 5 = .ok (.ifCond .eq 30, 3) := dk_153 0 30 (dk_at dksX0_bluff_0 5 rfl rfl)
theorem dX0_bluff_8 : decode cX0_bluff 8 = .ok (.iload_n 2, 1) := dk_28 (dk_at dksX0_bluff_0 8 rfl rfl)
theorem dX0_bluff_9 : decode cX0_bluff 9 = .ok (.invokestatic 282, 3) := dk_184 1 26 (dk_at dksX0_bluff_0 9 rfl rfl)
theorem dX0_bluff_12 : decode cX0_bluff 12 = .ok (.ifCond .eq 23, 3) := dk_153 0 23 (dk_at dksX0_bluff_0 12 rfl rfl)
theorem dX0_bluff_15 : decode cX0_bluff 15 = .ok (.iload_n 3, 1) := dk_29 (dk_at dksX0_bluff_0 15 rfl rfl)
theorem dX0_bluff_16 : decode cX0_bluff 16 = .ok (.iconst 0, 1) := dk_3 (dk_at dksX0_bluff_0 16 rfl rfl)
theorem dX0_bluff_17 : decode cX0_bluff 17 = .ok (.iconst 1, 1) := dk_4 (dk_at dksX0_bluff_0 17 rfl rfl)
theorem dX0_bluff_18 : decode cX0_bluff 18 = .ok (.invokestatic 26, 3) := dk_184 0 26 (dk_at dksX0_bluff_0 18 rfl rfl)
theorem dX0_bluff_21 : decode cX0_bluff 21 = .ok (.ifCond .eq 14, 3) := dk_153 0 14 (dk_at dksX0_bluff_0 21 rfl rfl)
theorem dX0_bluff_24 : decode cX0_bluff 24 = .ok (.aload_n 0, 1) := dk_42 (dk_at dksX0_bluff_1 0 rfl rfl)
theorem dX0_bluff_25 : decode cX0_bluff 25 = .ok (.invokevirtual 132, 3) := dk_182 0 132 (dk_at dksX0_bluff_1 1 rfl rfl)
theorem dX0_bluff_28 : decode cX0_bluff 28 = .ok (.iload_n 1, 1) := dk_27 (dk_at dksX0_bluff_1 4 rfl rfl)
theorem dX0_bluff_29 : decode cX0_bluff 29 = .ok (.invokevirtual 155, 3) := dk_182 0 155 (dk_at dksX0_bluff_1 5 rfl rfl)
theorem dX0_bluff_32 : decode cX0_bluff 32 = .ok (.ifCond .eq 5, 3) := dk_153 0 5 (dk_at dksX0_bluff_1 8 rfl rfl)
theorem dX0_bluff_35 : decode cX0_bluff 35 = .ok (.iconst (-1), 1) := dk_2 (dk_at dksX0_bluff_1 11 rfl rfl)
theorem dX0_bluff_36 : decode cX0_bluff 36 = .ok (.ireturn, 1) := dk_172 (dk_at dksX0_bluff_1 12 rfl rfl)
theorem dX0_bluff_37 : decode cX0_bluff 37 = .ok (.aload_n 0, 1) := dk_42 (dk_at dksX0_bluff_1 13 rfl rfl)
theorem dX0_bluff_38 : decode cX0_bluff 38 = .ok (.invokevirtual 132, 3) := dk_182 0 132 (dk_at dksX0_bluff_1 14 rfl rfl)
theorem dX0_bluff_41 : decode cX0_bluff 41 = .ok (.getfield 138, 3) := dk_180 0 138 (dk_at dksX0_bluff_1 17 rfl rfl)
theorem dX0_bluff_44 : decode cX0_bluff 44 = .ok (.iload_n 1, 1) := dk_27 (dk_at dksX0_bluff_1 20 rfl rfl)
theorem dX0_bluff_45 : decode cX0_bluff 45 = .ok (.iaload, 1) := dk_46 (dk_at dksX0_bluff_1 21 rfl rfl)
theorem dX0_bluff_46 : decode cX0_bluff 46 = .ok (.istore 4, 2) := dk_54 4 (dk_at dksX0_bluff_1 22 rfl rfl)
theorem dX0_bluff_48 : decode cX0_bluff 48 = .ok (.iconst 0, 1) := dk_3 (dk_at dksX0_bluff_2 0 rfl rfl)
theorem dX0_bluff_49 : decode cX0_bluff 49 = .ok (.istore 5, 2) := dk_54 5 (dk_at dksX0_bluff_2 1 rfl rfl)
theorem dX0_bluff_51 : decode cX0_bluff 51 = .ok (.iload 5, 2) := dk_21 5 (dk_at dksX0_bluff_2 3 rfl rfl)
theorem dX0_bluff_53 : decode cX0_bluff 53 = .ok (.bipush 6, 2) := dk_16 6 (dk_at dksX0_bluff_2 5 rfl rfl)
theorem dX0_bluff_55 : decode cX0_bluff 55 = .ok (.if_icmp .ge 36, 3) := dk_162 0 36 (dk_at dksX0_bluff_2 7 rfl rfl)
theorem dX0_bluff_58 : decode cX0_bluff 58 = .ok (.iload 4, 2) := dk_21 4 (dk_at dksX0_bluff_2 10 rfl rfl)
theorem dX0_bluff_60 : decode cX0_bluff 60 = .ok (.aload_n 0, 1) := dk_42 (dk_at dksX0_bluff_2 12 rfl rfl)
theorem dX0_bluff_61 : decode cX0_bluff 61 = .ok (.aload_n 0, 1) := dk_42 (dk_at dksX0_bluff_2 13 rfl rfl)
theorem dX0_bluff_62 : decode cX0_bluff 62 = .ok (.invokevirtual 132, 3) := dk_182 0 132 (dk_at dksX0_bluff_2 14 rfl rfl)
theorem dX0_bluff_65 : decode cX0_bluff 65 = .ok (.iload_n 1, 1) := dk_27 (dk_at dksX0_bluff_2 17 rfl rfl)
theorem dX0_bluff_66 : decode cX0_bluff 66 = .ok (.iload 5, 2) := dk_21 5 (dk_at dksX0_bluff_2 18 rfl rfl)
theorem dX0_bluff_68 : decode cX0_bluff 68 = .ok (.invokevirtual 288, 3) := dk_182 1 32 (dk_at dksX0_bluff_2 20 rfl rfl)
theorem dX0_bluff_71 : decode cX0_bluff 71 = .ok (.ifCond .eq 7, 3) := dk_153 0 7 (dk_at dksX0_bluff_3 0 rfl rfl)
theorem dX0_bluff_74 : decode cX0_bluff 74 = .ok (.iconst 0, 1) := dk_3 (dk_at dksX0_bluff_3 3 rfl rfl)
theorem dX0_bluff_75 : decode cX0_bluff 75 = .ok (.goto 7, 3) := dk_167 0 7 (dk_at dksX0_bluff_3 4 rfl rfl)
theorem dX0_bluff_78 : decode cX0_bluff 78 = .ok (.iconst 1, 1) := dk_4 (dk_at dksX0_bluff_3 7 rfl rfl)
theorem dX0_bluff_79 : decode cX0_bluff 79 = .ok (.iload 5, 2) := dk_21 5 (dk_at dksX0_bluff_3 8 rfl rfl)
theorem dX0_bluff_81 : decode cX0_bluff 81 = .ok (.ishl, 1) := dk_120 (dk_at dksX0_bluff_3 10 rfl rfl)
theorem dX0_bluff_82 : decode cX0_bluff 82 = .ok (.ior, 1) := dk_128 (dk_at dksX0_bluff_3 11 rfl rfl)
theorem dX0_bluff_83 : decode cX0_bluff 83 = .ok (.istore 4, 2) := dk_54 4 (dk_at dksX0_bluff_3 12 rfl rfl)
theorem dX0_bluff_85 : decode cX0_bluff 85 = .ok (.iinc 5 1, 3) := dk_132 5 1 (dk_at dksX0_bluff_3 14 rfl rfl)
theorem dX0_bluff_88 : decode cX0_bluff 88 = .ok (.goto (-37), 3) := dk_167 255 219 (dk_at dksX0_bluff_3 17 rfl rfl)
theorem dX0_bluff_91 : decode cX0_bluff 91 = .ok (.iconst (-1), 1) := dk_2 (dk_at dksX0_bluff_3 20 rfl rfl)
theorem dX0_bluff_92 : decode cX0_bluff 92 = .ok (.istore 5, 2) := dk_54 5 (dk_at dksX0_bluff_3 21 rfl rfl)
theorem dX0_bluff_94 : decode cX0_bluff 94 = .ok (.ldc_w 327, 3) := dk_19 1 71 (dk_at dksX0_bluff_4 0 rfl rfl)
theorem dX0_bluff_97 : decode cX0_bluff 97 = .ok (.istore 6, 2) := dk_54 6 (dk_at dksX0_bluff_4 3 rfl rfl)
theorem dX0_bluff_99 : decode cX0_bluff 99 = .ok (.iconst 0, 1) := dk_3 (dk_at dksX0_bluff_4 5 rfl rfl)
theorem dX0_bluff_100 : decode cX0_bluff 100 = .ok (.istore 7, 2) := dk_54 7 (dk_at dksX0_bluff_4 6 rfl rfl)
theorem dX0_bluff_102 : decode cX0_bluff 102 = .ok (.iload 7, 2) := dk_21 7 (dk_at dksX0_bluff_4 8 rfl rfl)
theorem dX0_bluff_104 : decode cX0_bluff 104 = .ok (.bipush 64, 2) := dk_16 64 (dk_at dksX0_bluff_4 10 rfl rfl)
theorem dX0_bluff_106 : decode cX0_bluff 106 = .ok (.if_icmp .ge 100, 3) := dk_162 0 100 (dk_at dksX0_bluff_4 12 rfl rfl)
theorem dX0_bluff_109 : decode cX0_bluff 109 = .ok (.iload 7, 2) := dk_21 7 (dk_at dksX0_bluff_4 15 rfl rfl)
theorem dX0_bluff_111 : decode cX0_bluff 111 = .ok (.iload 4, 2) := dk_21 4 (dk_at dksX0_bluff_4 17 rfl rfl)
theorem dX0_bluff_113 : decode cX0_bluff 113 = .ok (.iconst (-1), 1) := dk_2 (dk_at dksX0_bluff_4 19 rfl rfl)
theorem dX0_bluff_114 : decode cX0_bluff 114 = .ok (.ixor, 1) := dk_130 (dk_at dksX0_bluff_4 20 rfl rfl)
theorem dX0_bluff_115 : decode cX0_bluff 115 = .ok (.iand, 1) := dk_126 (dk_at dksX0_bluff_4 21 rfl rfl)
theorem dX0_bluff_116 : decode cX0_bluff 116 = .ok (.ifCond .eq 6, 3) := dk_153 0 6 (dk_at dksX0_bluff_5 0 rfl rfl)
theorem dX0_bluff_119 : decode cX0_bluff 119 = .ok (.goto 81, 3) := dk_167 0 81 (dk_at dksX0_bluff_5 3 rfl rfl)
theorem dX0_bluff_122 : decode cX0_bluff 122 = .ok (.iconst 0, 1) := dk_3 (dk_at dksX0_bluff_5 6 rfl rfl)
theorem dX0_bluff_123 : decode cX0_bluff 123 = .ok (.istore 8, 2) := dk_54 8 (dk_at dksX0_bluff_5 7 rfl rfl)
theorem dX0_bluff_125 : decode cX0_bluff 125 = .ok (.iconst 0, 1) := dk_3 (dk_at dksX0_bluff_5 9 rfl rfl)
theorem dX0_bluff_126 : decode cX0_bluff 126 = .ok (.istore 9, 2) := dk_54 9 (dk_at dksX0_bluff_5 10 rfl rfl)
theorem dX0_bluff_128 : decode cX0_bluff 128 = .ok (.iload 9, 2) := dk_21 9 (dk_at dksX0_bluff_5 12 rfl rfl)
theorem dX0_bluff_130 : decode cX0_bluff 130 = .ok (.bipush 6, 2) := dk_16 6 (dk_at dksX0_bluff_5 14 rfl rfl)
theorem dX0_bluff_132 : decode cX0_bluff 132 = .ok (.if_icmp .ge 35, 3) := dk_162 0 35 (dk_at dksX0_bluff_5 16 rfl rfl)
theorem dX0_bluff_135 : decode cX0_bluff 135 = .ok (.iload 8, 2) := dk_21 8 (dk_at dksX0_bluff_5 19 rfl rfl)
theorem dX0_bluff_137 : decode cX0_bluff 137 = .ok (.iload 7, 2) := dk_21 7 (dk_at dksX0_bluff_5 21 rfl rfl)
theorem dX0_bluff_139 : decode cX0_bluff 139 = .ok (.iload 9, 2) := dk_21 9 (dk_at dksX0_bluff_6 0 rfl rfl)
theorem dX0_bluff_141 : decode cX0_bluff 141 = .ok (.invokestatic 245, 3) := dk_184 0 245 (dk_at dksX0_bluff_6 2 rfl rfl)
theorem dX0_bluff_144 : decode cX0_bluff 144 = .ok (.ifCond .eq 13, 3) := dk_153 0 13 (dk_at dksX0_bluff_6 5 rfl rfl)
theorem dX0_bluff_147 : decode cX0_bluff 147 = .ok (.aload_n 0, 1) := dk_42 (dk_at dksX0_bluff_6 8 rfl rfl)
theorem dX0_bluff_148 : decode cX0_bluff 148 = .ok (.iload_n 1, 1) := dk_27 (dk_at dksX0_bluff_6 9 rfl rfl)
theorem dX0_bluff_149 : decode cX0_bluff 149 = .ok (.iload 9, 2) := dk_21 9 (dk_at dksX0_bluff_6 10 rfl rfl)
theorem dX0_bluff_151 : decode cX0_bluff 151 = .ok (.invokevirtual 285, 3) := dk_182 1 29 (dk_at dksX0_bluff_6 12 rfl rfl)
theorem dX0_bluff_154 : decode cX0_bluff 154 = .ok (.goto 4, 3) := dk_167 0 4 (dk_at dksX0_bluff_6 15 rfl rfl)
theorem dX0_bluff_157 : decode cX0_bluff 157 = .ok (.iconst 0, 1) := dk_3 (dk_at dksX0_bluff_6 18 rfl rfl)
theorem dX0_bluff_158 : decode cX0_bluff 158 = .ok (.iadd, 1) := dk_96 (dk_at dksX0_bluff_6 19 rfl rfl)
theorem dX0_bluff_159 : decode cX0_bluff 159 = .ok (.istore 8, 2) := dk_54 8 (dk_at dksX0_bluff_6 20 rfl rfl)
theorem dX0_bluff_161 : decode cX0_bluff 161 = .ok (.iinc 9 1, 3) := dk_132 9 1 (dk_at dksX0_bluff_7 0 rfl rfl)
theorem dX0_bluff_164 : decode cX0_bluff 164 = .ok (.goto (-36), 3) := dk_167 255 220 (dk_at dksX0_bluff_7 3 rfl rfl)
theorem dX0_bluff_167 : decode cX0_bluff 167 = .ok (.iload 8, 2) := dk_21 8 (dk_at dksX0_bluff_7 6 rfl rfl)
theorem dX0_bluff_169 : decode cX0_bluff 169 = .ok (.iload 6, 2) := dk_21 6 (dk_at dksX0_bluff_7 8 rfl rfl)
theorem dX0_bluff_171 : decode cX0_bluff 171 = .ok (.if_icmp .ge 29, 3) := dk_162 0 29 (dk_at dksX0_bluff_7 10 rfl rfl)
theorem dX0_bluff_174 : decode cX0_bluff 174 = .ok (.aload_n 0, 1) := dk_42 (dk_at dksX0_bluff_7 13 rfl rfl)
theorem dX0_bluff_175 : decode cX0_bluff 175 = .ok (.aload_n 0, 1) := dk_42 (dk_at dksX0_bluff_7 14 rfl rfl)
theorem dX0_bluff_176 : decode cX0_bluff 176 = .ok (.invokevirtual 132, 3) := dk_182 0 132 (dk_at dksX0_bluff_7 15 rfl rfl)
theorem dX0_bluff_179 : decode cX0_bluff 179 = .ok (.iload_n 1, 1) := dk_27 (dk_at dksX0_bluff_7 18 rfl rfl)
theorem dX0_bluff_180 : decode cX0_bluff 180 = .ok (.iload_n 2, 1) := dk_28 (dk_at dksX0_bluff_7 19 rfl rfl)
theorem dX0_bluff_181 : decode cX0_bluff 181 = .ok (.iload 7, 2) := dk_21 7 (dk_at dksX0_bluff_7 20 rfl rfl)
theorem dX0_bluff_183 : decode cX0_bluff 183 = .ok (.invokevirtual 292, 3) := dk_182 1 36 (dk_at dksX0_bluff_8 0 rfl rfl)
theorem dX0_bluff_186 : decode cX0_bluff 186 = .ok (.ifCond .ne 6, 3) := dk_154 0 6 (dk_at dksX0_bluff_8 3 rfl rfl)
theorem dX0_bluff_189 : decode cX0_bluff 189 = .ok (.goto 11, 3) := dk_167 0 11 (dk_at dksX0_bluff_8 6 rfl rfl)
theorem dX0_bluff_192 : decode cX0_bluff 192 = .ok (.iload 8, 2) := dk_21 8 (dk_at dksX0_bluff_8 9 rfl rfl)
theorem dX0_bluff_194 : decode cX0_bluff 194 = .ok (.istore 6, 2) := dk_54 6 (dk_at dksX0_bluff_8 11 rfl rfl)
theorem dX0_bluff_196 : decode cX0_bluff 196 = .ok (.iload 7, 2) := dk_21 7 (dk_at dksX0_bluff_8 13 rfl rfl)
theorem dX0_bluff_198 : decode cX0_bluff 198 = .ok (.istore 5, 2) := dk_54 5 (dk_at dksX0_bluff_8 15 rfl rfl)
theorem dX0_bluff_200 : decode cX0_bluff 200 = .ok (.iinc 7 1, 3) := dk_132 7 1 (dk_at dksX0_bluff_8 17 rfl rfl)
theorem dX0_bluff_203 : decode cX0_bluff 203 = .ok (.goto (-101), 3) := dk_167 255 155 (dk_at dksX0_bluff_8 20 rfl rfl)
theorem dX0_bluff_206 : decode cX0_bluff 206 = .ok (.iload 5, 2) := dk_21 5 (dk_at dksX0_bluff_9 0 rfl rfl)
theorem dX0_bluff_208 : decode cX0_bluff 208 = .ok (.iconst (-1), 1) := dk_2 (dk_at dksX0_bluff_9 2 rfl rfl)
theorem dX0_bluff_209 : decode cX0_bluff 209 = .ok (.if_icmp .eq 8, 3) := dk_159 0 8 (dk_at dksX0_bluff_9 3 rfl rfl)
theorem dX0_bluff_212 : decode cX0_bluff 212 = .ok (.iload_n 3, 1) := dk_29 (dk_at dksX0_bluff_9 6 rfl rfl)
theorem dX0_bluff_213 : decode cX0_bluff 213 = .ok (.iconst 1, 1) := dk_4 (dk_at dksX0_bluff_9 7 rfl rfl)
theorem dX0_bluff_214 : decode cX0_bluff 214 = .ok (.if_icmp .ne 8, 3) := dk_160 0 8 (dk_at dksX0_bluff_9 8 rfl rfl)
theorem dX0_bluff_217 : decode cX0_bluff 217 = .ok (.iload 5, 2) := dk_21 5 (dk_at dksX0_bluff_9 11 rfl rfl)
theorem dX0_bluff_219 : decode cX0_bluff 219 = .ok (.goto 5, 3) := dk_167 0 5 (dk_at dksX0_bluff_9 13 rfl rfl)
theorem dX0_bluff_222 : decode cX0_bluff 222 = .ok (.iload 6, 2) := dk_21 6 (dk_at dksX0_bluff_9 16 rfl rfl)
theorem dX0_bluff_224 : decode cX0_bluff 224 = .ok (.ireturn, 1) := dk_172 (dk_at dksX0_bluff_9 18 rfl rfl)
abbrev cX0_scout : ByteArray := prog_1_method_58_code
def yX0_scout : MethodName := ⟨RX0, "scout", "(II)I"⟩
def dkwX0_scout_4 : List UInt8 := [54, 5, 21, 6, 54, 4, 132, 6, 1, 167, 255, 190, 28, 154, 0, 8, 21, 4, 167, 0, 5, 21, 5, 172]
abbrev dktX0_scout_4 : List UInt8 := dkwX0_scout_4 ++ []
def dkwX0_scout_3 : List UInt8 := [2, 130, 126, 182, 0, 158, 100, 184, 1, 72, 54, 7, 21, 7, 21, 5, 163, 0, 6, 167, 0, 11, 21, 7]
abbrev dktX0_scout_3 : List UInt8 := dkwX0_scout_3 ++ dktX0_scout_4
def dkwX0_scout_2 : List UInt8 := [182, 0, 132, 27, 29, 4, 21, 6, 120, 128, 182, 0, 158, 42, 42, 182, 0, 132, 27, 29, 4, 21, 6, 120]
abbrev dktX0_scout_2 : List UInt8 := dkwX0_scout_2 ++ dktX0_scout_3
def dkwX0_scout_1 : List UInt8 := [180, 0, 138, 27, 46, 62, 2, 54, 4, 2, 54, 5, 3, 54, 6, 21, 6, 16, 6, 162, 0, 65, 42, 42]
abbrev dktX0_scout_1 : List UInt8 := dkwX0_scout_1 ++ dktX0_scout_2
def dkwX0_scout_0 : List UInt8 := [42, 27, 182, 0, 152, 153, 0, 12, 28, 3, 4, 184, 0, 26, 154, 0, 5, 2, 172, 42, 182, 0, 132]
abbrev dktX0_scout_0 : List UInt8 := dkwX0_scout_0 ++ dktX0_scout_1
theorem dksX0_scout_0 : cX0_scout.data.toList.drop 0 = dktX0_scout_0 := by decide +kernel
theorem dksX0_scout_1 : cX0_scout.data.toList.drop 23 = dktX0_scout_1 := dk_seg dksX0_scout_0 23 rfl rfl
theorem dksX0_scout_2 : cX0_scout.data.toList.drop 47 = dktX0_scout_2 := dk_seg dksX0_scout_1 24 rfl rfl
theorem dksX0_scout_3 : cX0_scout.data.toList.drop 71 = dktX0_scout_3 := dk_seg dksX0_scout_2 24 rfl rfl
theorem dksX0_scout_4 : cX0_scout.data.toList.drop 95 = dktX0_scout_4 := dk_seg dksX0_scout_3 24 rfl rfl
theorem dX0_scout_0 : decode cX0_scout 0 = .ok (.aload_n 0, 1) := dk_42 (dk_at dksX0_scout_0 0 rfl rfl)
theorem dX0_scout_1 : decode cX0_scout 1 = .ok (.iload_n 1, 1) := dk_27 (dk_at dksX0_scout_0 1 rfl rfl)
theorem dX0_scout_2 : decode cX0_scout 2 = .ok (.invokevirtual 152, 3) := dk_182 0 152 (dk_at dksX0_scout_0 2 rfl rfl)
theorem dX0_scout_5 : decode cX0_scout 5 = .ok (.ifCond .eq 12, 3) := dk_153 0 12 (dk_at dksX0_scout_0 5 rfl rfl)
theorem dX0_scout_8 : decode cX0_scout 8 = .ok (.iload_n 2, 1) := dk_28 (dk_at dksX0_scout_0 8 rfl rfl)
theorem dX0_scout_9 : decode cX0_scout 9 = .ok (.iconst 0, 1) := dk_3 (dk_at dksX0_scout_0 9 rfl rfl)
theorem dX0_scout_10 : decode cX0_scout 10 = .ok (.iconst 1, 1) := dk_4 (dk_at dksX0_scout_0 10 rfl rfl)
theorem dX0_scout_11 : decode cX0_scout 11 = .ok (.invokestatic 26, 3) := dk_184 0 26 (dk_at dksX0_scout_0 11 rfl rfl)
theorem dX0_scout_14 : decode cX0_scout 14 = .ok (.ifCond .ne 5, 3) := dk_154 0 5 (dk_at dksX0_scout_0 14 rfl rfl)
theorem dX0_scout_17 : decode cX0_scout 17 = .ok (.iconst (-1), 1) := dk_2 (dk_at dksX0_scout_0 17 rfl rfl)
theorem dX0_scout_18 : decode cX0_scout 18 = .ok (.ireturn, 1) := dk_172 (dk_at dksX0_scout_0 18 rfl rfl)
theorem dX0_scout_19 : decode cX0_scout 19 = .ok (.aload_n 0, 1) := dk_42 (dk_at dksX0_scout_0 19 rfl rfl)
theorem dX0_scout_20 : decode cX0_scout 20 = .ok (.invokevirtual 132, 3) := dk_182 0 132 (dk_at dksX0_scout_0 20 rfl rfl)
theorem dX0_scout_23 : decode cX0_scout 23 = .ok (.getfield 138, 3) := dk_180 0 138 (dk_at dksX0_scout_1 0 rfl rfl)
theorem dX0_scout_26 : decode cX0_scout 26 = .ok (.iload_n 1, 1) := dk_27 (dk_at dksX0_scout_1 3 rfl rfl)
theorem dX0_scout_27 : decode cX0_scout 27 = .ok (.iaload, 1) := dk_46 (dk_at dksX0_scout_1 4 rfl rfl)
theorem dX0_scout_28 : decode cX0_scout 28 = .ok (.istore_n 3, 1) := dk_62 (dk_at dksX0_scout_1 5 rfl rfl)
theorem dX0_scout_29 : decode cX0_scout 29 = .ok (.iconst (-1), 1) := dk_2 (dk_at dksX0_scout_1 6 rfl rfl)
theorem dX0_scout_30 : decode cX0_scout 30 = .ok (.istore 4, 2) := dk_54 4 (dk_at dksX0_scout_1 7 rfl rfl)
theorem dX0_scout_32 : decode cX0_scout 32 = .ok (.iconst (-1), 1) := dk_2 (dk_at dksX0_scout_1 9 rfl rfl)
theorem dX0_scout_33 : decode cX0_scout 33 = .ok (.istore 5, 2) := dk_54 5 (dk_at dksX0_scout_1 10 rfl rfl)
theorem dX0_scout_35 : decode cX0_scout 35 = .ok (.iconst 0, 1) := dk_3 (dk_at dksX0_scout_1 12 rfl rfl)
theorem dX0_scout_36 : decode cX0_scout 36 = .ok (.istore 6, 2) := dk_54 6 (dk_at dksX0_scout_1 13 rfl rfl)
theorem dX0_scout_38 : decode cX0_scout 38 = .ok (.iload 6, 2) := dk_21 6 (dk_at dksX0_scout_1 15 rfl rfl)
theorem dX0_scout_40 : decode cX0_scout 40 = .ok (.bipush 6, 2) := dk_16 6 (dk_at dksX0_scout_1 17 rfl rfl)
theorem dX0_scout_42 : decode cX0_scout 42 = .ok (.if_icmp .ge 65, 3) := dk_162 0 65 (dk_at dksX0_scout_1 19 rfl rfl)
theorem dX0_scout_45 : decode cX0_scout 45 = .ok (.aload_n 0, 1) := dk_42 (dk_at dksX0_scout_1 22 rfl rfl)
theorem dX0_scout_46 : decode cX0_scout 46 = .ok (.aload_n 0, 1) := dk_42 (dk_at dksX0_scout_1 23 rfl rfl)
theorem dX0_scout_47 : decode cX0_scout 47 = .ok (.invokevirtual 132, 3) := dk_182 0 132 (dk_at dksX0_scout_2 0 rfl rfl)
theorem dX0_scout_50 : decode cX0_scout 50 = .ok (.iload_n 1, 1) := dk_27 (dk_at dksX0_scout_2 3 rfl rfl)
theorem dX0_scout_51 : decode cX0_scout 51 = .ok (.iload_n 3, 1) := dk_29 (dk_at dksX0_scout_2 4 rfl rfl)
theorem dX0_scout_52 : decode cX0_scout 52 = .ok (.iconst 1, 1) := dk_4 (dk_at dksX0_scout_2 5 rfl rfl)
theorem dX0_scout_53 : decode cX0_scout 53 = .ok (.iload 6, 2) := dk_21 6 (dk_at dksX0_scout_2 6 rfl rfl)
theorem dX0_scout_55 : decode cX0_scout 55 = .ok (.ishl, 1) := dk_120 (dk_at dksX0_scout_2 8 rfl rfl)
theorem dX0_scout_56 : decode cX0_scout 56 = .ok (.ior, 1) := dk_128 (dk_at dksX0_scout_2 9 rfl rfl)
theorem dX0_scout_57 : decode cX0_scout 57 = .ok (.invokevirtual 158, 3) := dk_182 0 158 (dk_at dksX0_scout_2 10 rfl rfl)
theorem dX0_scout_60 : decode cX0_scout 60 = .ok (.aload_n 0, 1) := dk_42 (dk_at dksX0_scout_2 13 rfl rfl)
theorem dX0_scout_61 : decode cX0_scout 61 = .ok (.aload_n 0, 1) := dk_42 (dk_at dksX0_scout_2 14 rfl rfl)
theorem dX0_scout_62 : decode cX0_scout 62 = .ok (.invokevirtual 132, 3) := dk_182 0 132 (dk_at dksX0_scout_2 15 rfl rfl)
theorem dX0_scout_65 : decode cX0_scout 65 = .ok (.iload_n 1, 1) := dk_27 (dk_at dksX0_scout_2 18 rfl rfl)
theorem dX0_scout_66 : decode cX0_scout 66 = .ok (.iload_n 3, 1) := dk_29 (dk_at dksX0_scout_2 19 rfl rfl)
theorem dX0_scout_67 : decode cX0_scout 67 = .ok (.iconst 1, 1) := dk_4 (dk_at dksX0_scout_2 20 rfl rfl)
theorem dX0_scout_68 : decode cX0_scout 68 = .ok (.iload 6, 2) := dk_21 6 (dk_at dksX0_scout_2 21 rfl rfl)
theorem dX0_scout_70 : decode cX0_scout 70 = .ok (.ishl, 1) := dk_120 (dk_at dksX0_scout_2 23 rfl rfl)
theorem dX0_scout_71 : decode cX0_scout 71 = .ok (.iconst (-1), 1) := dk_2 (dk_at dksX0_scout_3 0 rfl rfl)
theorem dX0_scout_72 : decode cX0_scout 72 = .ok (.ixor, 1) := dk_130 (dk_at dksX0_scout_3 1 rfl rfl)
theorem dX0_scout_73 : decode cX0_scout 73 = .ok (.iand, 1) := dk_126 (dk_at dksX0_scout_3 2 rfl rfl)
theorem dX0_scout_74 : decode cX0_scout 74 = .ok (.invokevirtual 158, 3) := dk_182 0 158 (dk_at dksX0_scout_3 3 rfl rfl)
theorem dX0_scout_77 : decode cX0_scout 77 = .ok (.isub, 1) := dk_100 (dk_at dksX0_scout_3 6 rfl rfl)
theorem dX0_scout_78 : decode cX0_scout 78 = .ok (.invokestatic 328, 3) := dk_184 1 72 (dk_at dksX0_scout_3 7 rfl rfl)
theorem dX0_scout_81 : decode cX0_scout 81 = .ok (.istore 7, 2) := dk_54 7 (dk_at dksX0_scout_3 10 rfl rfl)
theorem dX0_scout_83 : decode cX0_scout 83 = .ok (.iload 7, 2) := dk_21 7 (dk_at dksX0_scout_3 12 rfl rfl)
theorem dX0_scout_85 : decode cX0_scout 85 = .ok (.iload 5, 2) := dk_21 5 (dk_at dksX0_scout_3 14 rfl rfl)
theorem dX0_scout_87 : decode cX0_scout 87 = .ok (.if_icmp .gt 6, 3) := dk_163 0 6 (dk_at dksX0_scout_3 16 rfl rfl)
theorem dX0_scout_90 : decode cX0_scout 90 = .ok (.goto 11, 3) := dk_167 0 11 (dk_at dksX0_scout_3 19 rfl rfl)
theorem dX0_scout_93 : decode cX0_scout 93 = .ok (.iload 7, 2) := dk_21 7 (dk_at dksX0_scout_3 22 rfl rfl)
theorem dX0_scout_95 : decode cX0_scout 95 = .ok (.istore 5, 2) := dk_54 5 (dk_at dksX0_scout_4 0 rfl rfl)
theorem dX0_scout_97 : decode cX0_scout 97 = .ok (.iload 6, 2) := dk_21 6 (dk_at dksX0_scout_4 2 rfl rfl)
theorem dX0_scout_99 : decode cX0_scout 99 = .ok (.istore 4, 2) := dk_54 4 (dk_at dksX0_scout_4 4 rfl rfl)
theorem dX0_scout_101 : decode cX0_scout 101 = .ok (.iinc 6 1, 3) := dk_132 6 1 (dk_at dksX0_scout_4 6 rfl rfl)
theorem dX0_scout_104 : decode cX0_scout 104 = .ok (.goto (-66), 3) := dk_167 255 190 (dk_at dksX0_scout_4 9 rfl rfl)
theorem dX0_scout_107 : decode cX0_scout 107 = .ok (.iload_n 2, 1) := dk_28 (dk_at dksX0_scout_4 12 rfl rfl)
theorem dX0_scout_108 : decode cX0_scout 108 = .ok (.ifCond .ne 8, 3) := dk_154 0 8 (dk_at dksX0_scout_4 13 rfl rfl)
theorem dX0_scout_111 : decode cX0_scout 111 = .ok (.iload 4, 2) := dk_21 4 (dk_at dksX0_scout_4 16 rfl rfl)
theorem dX0_scout_113 : decode cX0_scout 113 = .ok (.goto 5, 3) := dk_167 0 5 (dk_at dksX0_scout_4 18 rfl rfl)
theorem dX0_scout_116 : decode cX0_scout 116 = .ok (.iload 5, 2) := dk_21 5 (dk_at dksX0_scout_4 21 rfl rfl)
theorem dX0_scout_118 : decode cX0_scout 118 = .ok (.ireturn, 1) := dk_172 (dk_at dksX0_scout_4 23 rfl rfl)
abbrev cX0_holds : ByteArray := prog_1_method_59_code
def yX0_holds : MethodName := ⟨RX0, "holds", "(II)J"⟩
def dkwX0_holds_5 : List UInt8 := [20, 1, 79, 109, 55, 4, 132, 6, 1, 167, 255, 236, 22, 4, 173]
abbrev dktX0_holds_5 : List UInt8 := dkwX0_holds_5 ++ []
def dkwX0_holds_4 : List UInt8 := [167, 255, 201, 20, 1, 77, 55, 4, 3, 54, 6, 21, 6, 28, 162, 0, 20, 22, 4, 29, 133, 105]
abbrev dktX0_holds_4 : List UInt8 := dkwX0_holds_4 ++ dktX0_holds_5
def dkwX0_holds_3 : List UInt8 := [182, 0, 132, 180, 0, 138, 27, 46, 182, 1, 36, 154, 0, 7, 3, 167, 0, 4, 4, 96, 62, 132, 4, 10]
abbrev dktX0_holds_3 : List UInt8 := dkwX0_holds_3 ++ dktX0_holds_4
def dkwX0_holds_2 : List UInt8 := [21, 4, 42, 182, 0, 132, 180, 0, 135, 27, 46, 164, 0, 30, 42, 42, 182, 0, 132, 27, 21, 4, 42]
abbrev dktX0_holds_2 : List UInt8 := dkwX0_holds_2 ++ dktX0_holds_3
def dkwX0_holds_1 : List UInt8 := [182, 0, 155, 153, 0, 7, 20, 1, 75, 173, 3, 62, 16, 9, 54, 4, 21, 4, 16, 99, 163, 0, 54, 29]
abbrev dktX0_holds_1 : List UInt8 := dkwX0_holds_1 ++ dktX0_holds_2
def dkwX0_holds_0 : List UInt8 := [42, 27, 182, 0, 152, 153, 0, 24, 28, 3, 16, 30, 184, 0, 26, 153, 0, 14, 42, 182, 0, 132, 27]
abbrev dktX0_holds_0 : List UInt8 := dkwX0_holds_0 ++ dktX0_holds_1
theorem dksX0_holds_0 : cX0_holds.data.toList.drop 0 = dktX0_holds_0 := by decide +kernel
theorem dksX0_holds_1 : cX0_holds.data.toList.drop 23 = dktX0_holds_1 := dk_seg dksX0_holds_0 23 rfl rfl
theorem dksX0_holds_2 : cX0_holds.data.toList.drop 47 = dktX0_holds_2 := dk_seg dksX0_holds_1 24 rfl rfl
theorem dksX0_holds_3 : cX0_holds.data.toList.drop 70 = dktX0_holds_3 := dk_seg dksX0_holds_2 23 rfl rfl
theorem dksX0_holds_4 : cX0_holds.data.toList.drop 94 = dktX0_holds_4 := dk_seg dksX0_holds_3 24 rfl rfl
theorem dksX0_holds_5 : cX0_holds.data.toList.drop 116 = dktX0_holds_5 := dk_seg dksX0_holds_4 22 rfl rfl
theorem dX0_holds_0 : decode cX0_holds 0 = .ok (.aload_n 0, 1) := dk_42 (dk_at dksX0_holds_0 0 rfl rfl)
theorem dX0_holds_1 : decode cX0_holds 1 = .ok (.iload_n 1, 1) := dk_27 (dk_at dksX0_holds_0 1 rfl rfl)
theorem dX0_holds_2 : decode cX0_holds 2 = .ok (.invokevirtual 152, 3) := dk_182 0 152 (dk_at dksX0_holds_0 2 rfl rfl)
theorem dX0_holds_5 : decode cX0_holds 5 = .ok (.ifCond .eq 24, 3) := dk_153 0 24 (dk_at dksX0_holds_0 5 rfl rfl)
theorem dX0_holds_8 : decode cX0_holds 8 = .ok (.iload_n 2, 1) := dk_28 (dk_at dksX0_holds_0 8 rfl rfl)
theorem dX0_holds_9 : decode cX0_holds 9 = .ok (.iconst 0, 1) := dk_3 (dk_at dksX0_holds_0 9 rfl rfl)
theorem dX0_holds_10 : decode cX0_holds 10 = .ok (.bipush 30, 2) := dk_16 30 (dk_at dksX0_holds_0 10 rfl rfl)
theorem dX0_holds_12 : decode cX0_holds 12 = .ok (.invokestatic 26, 3) := dk_184 0 26 (dk_at dksX0_holds_0 12 rfl rfl)
theorem dX0_holds_15 : decode cX0_holds 15 = .ok (.ifCond .eq 14, 3) := dk_153 0 14 (dk_at dksX0_holds_0 15 rfl rfl)
theorem dX0_holds_18 : decode cX0_holds 18 = .ok (.aload_n 0, 1) := dk_42 (dk_at dksX0_holds_0 18 rfl rfl)
theorem dX0_holds_19 : decode cX0_holds 19 = .ok (.invokevirtual 132, 3) := dk_182 0 132 (dk_at dksX0_holds_0 19 rfl rfl)
theorem dX0_holds_22 : decode cX0_holds 22 = .ok (.iload_n 1, 1) := dk_27 (dk_at dksX0_holds_0 22 rfl rfl)
theorem dX0_holds_23 : decode cX0_holds 23 = .ok (.invokevirtual 155, 3) := dk_182 0 155 (dk_at dksX0_holds_1 0 rfl rfl)
theorem dX0_holds_26 : decode cX0_holds 26 = .ok (.ifCond .eq 7, 3) := dk_153 0 7 (dk_at dksX0_holds_1 3 rfl rfl)
theorem dX0_holds_29 : decode cX0_holds 29 = .ok (.ldc2_w 331, 3) := dk_20 1 75 (dk_at dksX0_holds_1 6 rfl rfl)
theorem dX0_holds_32 : decode cX0_holds 32 = .ok (.lreturn, 1) := dk_173 (dk_at dksX0_holds_1 9 rfl rfl)
theorem dX0_holds_33 : decode cX0_holds 33 = .ok (.iconst 0, 1) := dk_3 (dk_at dksX0_holds_1 10 rfl rfl)
theorem dX0_holds_34 : decode cX0_holds 34 = .ok (.istore_n 3, 1) := dk_62 (dk_at dksX0_holds_1 11 rfl rfl)
theorem dX0_holds_35 : decode cX0_holds 35 = .ok (.bipush 9, 2) := dk_16 9 (dk_at dksX0_holds_1 12 rfl rfl)
theorem dX0_holds_37 : decode cX0_holds 37 = .ok (.istore 4, 2) := dk_54 4 (dk_at dksX0_holds_1 14 rfl rfl)
theorem dX0_holds_39 : decode cX0_holds 39 = .ok (.iload 4, 2) := dk_21 4 (dk_at dksX0_holds_1 16 rfl rfl)
theorem dX0_holds_41 : decode cX0_holds 41 = .ok (.bipush 99, 2) := dk_16 99 (dk_at dksX0_holds_1 18 rfl rfl)
theorem dX0_holds_43 : decode cX0_holds 43 = .ok (.if_icmp .gt 54, 3) := dk_163 0 54 (dk_at dksX0_holds_1 20 rfl rfl)
theorem dX0_holds_46 : decode cX0_holds 46 = .ok (.iload_n 3, 1) := dk_29 (dk_at dksX0_holds_1 23 rfl rfl)
theorem dX0_holds_47 : decode cX0_holds 47 = .ok (.iload 4, 2) := dk_21 4 (dk_at dksX0_holds_2 0 rfl rfl)
theorem dX0_holds_49 : decode cX0_holds 49 = .ok (.aload_n 0, 1) := dk_42 (dk_at dksX0_holds_2 2 rfl rfl)
theorem dX0_holds_50 : decode cX0_holds 50 = .ok (.invokevirtual 132, 3) := dk_182 0 132 (dk_at dksX0_holds_2 3 rfl rfl)
theorem dX0_holds_53 : decode cX0_holds 53 = .ok (.getfield 135, 3) := dk_180 0 135 (dk_at dksX0_holds_2 6 rfl rfl)
theorem dX0_holds_56 : decode cX0_holds 56 = .ok (.iload_n 1, 1) := dk_27 (dk_at dksX0_holds_2 9 rfl rfl)
theorem dX0_holds_57 : decode cX0_holds 57 = .ok (.iaload, 1) := dk_46 (dk_at dksX0_holds_2 10 rfl rfl)
theorem dX0_holds_58 : decode cX0_holds 58 = .ok (.if_icmp .le 30, 3) := dk_164 0 30 (dk_at dksX0_holds_2 11 rfl rfl)
theorem dX0_holds_61 : decode cX0_holds 61 = .ok (.aload_n 0, 1) := dk_42 (dk_at dksX0_holds_2 14 rfl rfl)
theorem dX0_holds_62 : decode cX0_holds 62 = .ok (.aload_n 0, 1) := dk_42 (dk_at dksX0_holds_2 15 rfl rfl)
theorem dX0_holds_63 : decode cX0_holds 63 = .ok (.invokevirtual 132, 3) := dk_182 0 132 (dk_at dksX0_holds_2 16 rfl rfl)
theorem dX0_holds_66 : decode cX0_holds 66 = .ok (.iload_n 1, 1) := dk_27 (dk_at dksX0_holds_2 19 rfl rfl)
theorem dX0_holds_67 : decode cX0_holds 67 = .ok (.iload 4, 2) := dk_21 4 (dk_at dksX0_holds_2 20 rfl rfl)
theorem dX0_holds_69 : decode cX0_holds 69 = .ok (.aload_n 0, 1) := dk_42 (dk_at dksX0_holds_2 22 rfl rfl)
theorem dX0_holds_70 : decode cX0_holds 70 = .ok (.invokevirtual 132, 3) := dk_182 0 132 (dk_at dksX0_holds_3 0 rfl rfl)
theorem dX0_holds_73 : decode cX0_holds 73 = .ok (.getfield 138, 3) := dk_180 0 138 (dk_at dksX0_holds_3 3 rfl rfl)
theorem dX0_holds_76 : decode cX0_holds 76 = .ok (.iload_n 1, 1) := dk_27 (dk_at dksX0_holds_3 6 rfl rfl)
theorem dX0_holds_77 : decode cX0_holds 77 = .ok (.iaload, 1) := dk_46 (dk_at dksX0_holds_3 7 rfl rfl)
theorem dX0_holds_78 : decode cX0_holds 78 = .ok (.invokevirtual 292, 3) := dk_182 1 36 (dk_at dksX0_holds_3 8 rfl rfl)
theorem dX0_holds_81 : decode cX0_holds 81 = .ok (.ifCond .ne 7, 3) := dk_154 0 7 (dk_at dksX0_holds_3 11 rfl rfl)
theorem dX0_holds_84 : decode cX0_holds 84 = .ok (.iconst 0, 1) := dk_3 (dk_at dksX0_holds_3 14 rfl rfl)
theorem dX0_holds_85 : decode cX0_holds 85 = .ok (.goto 4, 3) := dk_167 0 4 (dk_at dksX0_holds_3 15 rfl rfl)
theorem dX0_holds_88 : decode cX0_holds 88 = .ok (.iconst 1, 1) := dk_4 (dk_at dksX0_holds_3 18 rfl rfl)
theorem dX0_holds_89 : decode cX0_holds 89 = .ok (.iadd, 1) := dk_96 (dk_at dksX0_holds_3 19 rfl rfl)
theorem dX0_holds_90 : decode cX0_holds 90 = .ok (.istore_n 3, 1) := dk_62 (dk_at dksX0_holds_3 20 rfl rfl)
theorem dX0_holds_91 : decode cX0_holds 91 = .ok (.iinc 4 10, 3) := dk_132 4 10 (dk_at dksX0_holds_3 21 rfl rfl)
theorem dX0_holds_94 : decode cX0_holds 94 = .ok (.goto (-55), 3) := dk_167 255 201 (dk_at dksX0_holds_4 0 rfl rfl)
theorem dX0_holds_97 : decode cX0_holds 97 = .ok (.ldc2_w 333, 3) := dk_20 1 77 (dk_at dksX0_holds_4 3 rfl rfl)
theorem dX0_holds_100 : decode cX0_holds 100 = .ok (.lstore 4, 2) := dk_55 4 (dk_at dksX0_holds_4 6 rfl rfl)
theorem dX0_holds_102 : decode cX0_holds 102 = .ok (.iconst 0, 1) := dk_3 (dk_at dksX0_holds_4 8 rfl rfl)
theorem dX0_holds_103 : decode cX0_holds 103 = .ok (.istore 6, 2) := dk_54 6 (dk_at dksX0_holds_4 9 rfl rfl)
theorem dX0_holds_105 : decode cX0_holds 105 = .ok (.iload 6, 2) := dk_21 6 (dk_at dksX0_holds_4 11 rfl rfl)
theorem dX0_holds_107 : decode cX0_holds 107 = .ok (.iload_n 2, 1) := dk_28 (dk_at dksX0_holds_4 13 rfl rfl)
theorem dX0_holds_108 : decode cX0_holds 108 = .ok (.if_icmp .ge 20, 3) := dk_162 0 20 (dk_at dksX0_holds_4 14 rfl rfl)
theorem dX0_holds_111 : decode cX0_holds 111 = .ok (.lload 4, 2) := dk_22 4 (dk_at dksX0_holds_4 17 rfl rfl)
theorem dX0_holds_113 : decode cX0_holds 113 = .ok (.iload_n 3, 1) := dk_29 (dk_at dksX0_holds_4 19 rfl rfl)
theorem dX0_holds_114 : decode cX0_holds 114 = .ok (.i2l, 1) := dk_133 (dk_at dksX0_holds_4 20 rfl rfl)
theorem dX0_holds_115 : decode cX0_holds 115 = .ok (.lmul, 1) := dk_105 (dk_at dksX0_holds_4 21 rfl rfl)
theorem dX0_holds_116 : decode cX0_holds 116 = .ok (.ldc2_w 335, 3) := dk_20 1 79 (dk_at dksX0_holds_5 0 rfl rfl)
theorem dX0_holds_119 : decode cX0_holds 119 = .ok (.ldiv, 1) := dk_109 (dk_at dksX0_holds_5 3 rfl rfl)
theorem dX0_holds_120 : decode cX0_holds 120 = .ok (.lstore 4, 2) := dk_55 4 (dk_at dksX0_holds_5 4 rfl rfl)
theorem dX0_holds_122 : decode cX0_holds 122 = .ok (.iinc 6 1, 3) := dk_132 6 1 (dk_at dksX0_holds_5 6 rfl rfl)
theorem dX0_holds_125 : decode cX0_holds 125 = .ok (.goto (-20), 3) := dk_167 255 236 (dk_at dksX0_holds_5 9 rfl rfl)
theorem dX0_holds_128 : decode cX0_holds 128 = .ok (.lload 4, 2) := dk_22 4 (dk_at dksX0_holds_5 12 rfl rfl)
theorem dX0_holds_130 : decode cX0_holds 130 = .ok (.lreturn, 1) := dk_173 (dk_at dksX0_holds_5 14 rfl rfl)
abbrev cX0_retreat : ByteArray := prog_1_method_61_code
def yX0_retreat : MethodName := ⟨RX0, "retreat", "(III)I"⟩
def dkwX0_retreat_9 : List UInt8 := [160, 0, 5, 2, 172, 42, 21, 4, 28, 182, 1, 81, 54, 4, 132, 5, 1, 167, 255, 230, 21, 4, 172]
abbrev dktX0_retreat_9 : List UInt8 := dkwX0_retreat_9 ++ []
def dkwX0_retreat_8 : List UInt8 := [42, 180, 0, 88, 27, 46, 172, 27, 54, 4, 3, 54, 5, 21, 5, 29, 163, 0, 26, 21, 4, 28]
abbrev dktX0_retreat_8 : List UInt8 := dkwX0_retreat_8 ++ dktX0_retreat_9
def dkwX0_retreat_7 : List UInt8 := [159, 0, 8, 29, 2, 160, 0, 26, 42, 180, 0, 88, 27, 46, 19, 1, 71, 160, 0, 7, 2, 167, 0, 9]
abbrev dktX0_retreat_7 : List UInt8 := dkwX0_retreat_7 ++ dktX0_retreat_8
def dkwX0_retreat_6 : List UInt8 := [46, 96, 79, 132, 5, 1, 167, 255, 185, 132, 4, 1, 167, 255, 169, 42, 180, 0, 88, 27, 46, 19, 1, 71]
abbrev dktX0_retreat_6 : List UInt8 := dkwX0_retreat_6 ++ dktX0_retreat_7
def dkwX0_retreat_5 : List UInt8 := [21, 5, 42, 180, 0, 43, 180, 0, 174, 16, 6, 21, 5, 104, 21, 6, 96, 46, 42, 180, 0, 88, 21, 6]
abbrev dktX0_retreat_5 : List UInt8 := dkwX0_retreat_5 ++ dktX0_retreat_6
def dkwX0_retreat_4 : List UInt8 := [2, 167, 0, 10, 42, 21, 5, 28, 182, 1, 81, 54, 6, 21, 6, 2, 159, 0, 34, 42, 180, 0, 88]
abbrev dktX0_retreat_4 : List UInt8 := dkwX0_retreat_4 ++ dktX0_retreat_5
def dkwX0_retreat_3 : List UInt8 := [162, 0, 86, 3, 54, 5, 21, 5, 42, 180, 0, 43, 180, 0, 112, 162, 0, 65, 21, 5, 28, 160, 0, 7]
abbrev dktX0_retreat_3 : List UInt8 := dkwX0_retreat_3 ++ dktX0_retreat_4
def dkwX0_retreat_2 : List UInt8 := [160, 0, 7, 3, 167, 0, 6, 19, 1, 71, 79, 132, 4, 1, 167, 255, 226, 3, 54, 4, 21, 4, 16, 6]
abbrev dktX0_retreat_2 : List UInt8 := dkwX0_retreat_2 ++ dktX0_retreat_3
def dkwX0_retreat_1 : List UInt8 := [162, 0, 5, 2, 172, 3, 54, 4, 21, 4, 16, 6, 162, 0, 29, 42, 180, 0, 88, 21, 4, 21, 4, 28]
abbrev dktX0_retreat_1 : List UInt8 := dkwX0_retreat_1 ++ dktX0_retreat_2
def dkwX0_retreat_0 : List UInt8 := [42, 27, 182, 0, 152, 153, 0, 21, 42, 28, 182, 0, 152, 153, 0, 13, 27, 28, 159, 0, 8, 29, 2]
abbrev dktX0_retreat_0 : List UInt8 := dkwX0_retreat_0 ++ dktX0_retreat_1
theorem dksX0_retreat_0 : cX0_retreat.data.toList.drop 0 = dktX0_retreat_0 := by decide +kernel
theorem dksX0_retreat_1 : cX0_retreat.data.toList.drop 23 = dktX0_retreat_1 := dk_seg dksX0_retreat_0 23 rfl rfl
theorem dksX0_retreat_2 : cX0_retreat.data.toList.drop 47 = dktX0_retreat_2 := dk_seg dksX0_retreat_1 24 rfl rfl
theorem dksX0_retreat_3 : cX0_retreat.data.toList.drop 71 = dktX0_retreat_3 := dk_seg dksX0_retreat_2 24 rfl rfl
theorem dksX0_retreat_4 : cX0_retreat.data.toList.drop 95 = dktX0_retreat_4 := dk_seg dksX0_retreat_3 24 rfl rfl
theorem dksX0_retreat_5 : cX0_retreat.data.toList.drop 118 = dktX0_retreat_5 := dk_seg dksX0_retreat_4 23 rfl rfl
theorem dksX0_retreat_6 : cX0_retreat.data.toList.drop 142 = dktX0_retreat_6 := dk_seg dksX0_retreat_5 24 rfl rfl
theorem dksX0_retreat_7 : cX0_retreat.data.toList.drop 166 = dktX0_retreat_7 := dk_seg dksX0_retreat_6 24 rfl rfl
theorem dksX0_retreat_8 : cX0_retreat.data.toList.drop 190 = dktX0_retreat_8 := dk_seg dksX0_retreat_7 24 rfl rfl
theorem dksX0_retreat_9 : cX0_retreat.data.toList.drop 212 = dktX0_retreat_9 := dk_seg dksX0_retreat_8 22 rfl rfl
theorem dX0_retreat_0 : decode cX0_retreat 0 = .ok (.aload_n 0, 1) := dk_42 (dk_at dksX0_retreat_0 0 rfl rfl)
theorem dX0_retreat_1 : decode cX0_retreat 1 = .ok (.iload_n 1, 1) := dk_27 (dk_at dksX0_retreat_0 1 rfl rfl)
theorem dX0_retreat_2 : decode cX0_retreat 2 = .ok (.invokevirtual 152, 3) := dk_182 0 152 (dk_at dksX0_retreat_0 2 rfl rfl)
theorem dX0_retreat_5 : decode cX0_retreat 5 = .ok (.ifCond .eq 21, 3) := dk_153 0 21 (dk_at dksX0_retreat_0 5 rfl rfl)
theorem dX0_retreat_8 : decode cX0_retreat 8 = .ok (.aload_n 0, 1) := dk_42 (dk_at dksX0_retreat_0 8 rfl rfl)
theorem dX0_retreat_9 : decode cX0_retreat 9 = .ok (.iload_n 2, 1) := dk_28 (dk_at dksX0_retreat_0 9 rfl rfl)
theorem dX0_retreat_10 : decode cX0_retreat 10 = .ok (.invokevirtual 152, 3) := dk_182 0 152 (dk_at dksX0_retreat_0 10 rfl rfl)
theorem dX0_retreat_13 : decode cX0_retreat 13 = .ok (.ifCond .eq 13, 3) := dk_153 0 13 (dk_at dksX0_retreat_0 13 rfl rfl)
theorem dX0_retreat_16 : decode cX0_retreat 16 = .ok (.iload_n 1, 1) := dk_27 (dk_at dksX0_retreat_0 16 rfl rfl)
theorem dX0_retreat_17 : decode cX0_retreat 17 = .ok (.iload_n 2, 1) := dk_28 (dk_at dksX0_retreat_0 17 rfl rfl)
theorem dX0_retreat_18 : decode cX0_retreat 18 = .ok (.if_icmp .eq 8, 3) := dk_159 0 8 (dk_at dksX0_retreat_0 18 rfl rfl)
theorem dX0_retreat_21 : decode cX0_retreat 21 = .ok (.iload_n 3, 1) := dk_29 (dk_at dksX0_retreat_0 21 rfl rfl)
theorem dX0_retreat_22 : decode cX0_retreat 22 = .ok (.iconst (-1), 1) := dk_2 (dk_at dksX0_retreat_0 22 rfl rfl)
theorem dX0_retreat_23 : decode cX0_retreat 23 = .ok (.if_icmp .ge 5, 3) := dk_162 0 5 (dk_at dksX0_retreat_1 0 rfl rfl)
theorem dX0_retreat_26 : decode cX0_retreat 26 = .ok (.iconst (-1), 1) := dk_2 (dk_at dksX0_retreat_1 3 rfl rfl)
theorem dX0_retreat_27 : decode cX0_retreat 27 = .ok (.ireturn, 1) := dk_172 (dk_at dksX0_retreat_1 4 rfl rfl)
theorem dX0_retreat_28 : decode cX0_retreat 28 = .ok (.iconst 0, 1) := dk_3 (dk_at dksX0_retreat_1 5 rfl rfl)
theorem dX0_retreat_29 : decode cX0_retreat 29 = .ok (.istore 4, 2) := dk_54 4 (dk_at dksX0_retreat_1 6 rfl rfl)
theorem dX0_retreat_31 : decode cX0_retreat 31 = .ok (.iload 4, 2) := dk_21 4 (dk_at dksX0_retreat_1 8 rfl rfl)
theorem dX0_retreat_33 : decode cX0_retreat 33 = .ok (.bipush 6, 2) := dk_16 6 (dk_at dksX0_retreat_1 10 rfl rfl)
theorem dX0_retreat_35 : decode cX0_retreat 35 = .ok (.if_icmp .ge 29, 3) := dk_162 0 29 (dk_at dksX0_retreat_1 12 rfl rfl)
theorem dX0_retreat_38 : decode cX0_retreat 38 = .ok (.aload_n 0, 1) := dk_42 (dk_at dksX0_retreat_1 15 rfl rfl)
theorem dX0_retreat_39 : decode cX0_retreat 39 = .ok (.getfield 88, 3) := dk_180 0 88 (dk_at dksX0_retreat_1 16 rfl rfl)
theorem dX0_retreat_42 : decode cX0_retreat 42 = .ok (.iload 4, 2) := dk_21 4 (dk_at dksX0_retreat_1 19 rfl rfl)
theorem dX0_retreat_44 : decode cX0_retreat 44 = .ok (.iload 4, 2) := dk_21 4 (dk_at dksX0_retreat_1 21 rfl rfl)
theorem dX0_retreat_46 : decode cX0_retreat 46 = .ok (.iload_n 2, 1) := dk_28 (dk_at dksX0_retreat_1 23 rfl rfl)
theorem dX0_retreat_47 : decode cX0_retreat 47 = .ok (.if_icmp .ne 7, 3) := dk_160 0 7 (dk_at dksX0_retreat_2 0 rfl rfl)
theorem dX0_retreat_50 : decode cX0_retreat 50 = .ok (.iconst 0, 1) := dk_3 (dk_at dksX0_retreat_2 3 rfl rfl)
theorem dX0_retreat_51 : decode cX0_retreat 51 = .ok (.goto 6, 3) := dk_167 0 6 (dk_at dksX0_retreat_2 4 rfl rfl)
theorem dX0_retreat_54 : decode cX0_retreat 54 = .ok (.ldc_w 327, 3) := dk_19 1 71 (dk_at dksX0_retreat_2 7 rfl rfl)
theorem dX0_retreat_57 : decode cX0_retreat 57 = .ok (.iastore, 1) := dk_79 (dk_at dksX0_retreat_2 10 rfl rfl)
theorem dX0_retreat_58 : decode cX0_retreat 58 = .ok (.iinc 4 1, 3) := dk_132 4 1 (dk_at dksX0_retreat_2 11 rfl rfl)
theorem dX0_retreat_61 : decode cX0_retreat 61 = .ok (.goto (-30), 3) := dk_167 255 226 (dk_at dksX0_retreat_2 14 rfl rfl)
theorem dX0_retreat_64 : decode cX0_retreat 64 = .ok (.iconst 0, 1) := dk_3 (dk_at dksX0_retreat_2 17 rfl rfl)
theorem dX0_retreat_65 : decode cX0_retreat 65 = .ok (.istore 4, 2) := dk_54 4 (dk_at dksX0_retreat_2 18 rfl rfl)
theorem dX0_retreat_67 : decode cX0_retreat 67 = .ok (.iload 4, 2) := dk_21 4 (dk_at dksX0_retreat_2 20 rfl rfl)
theorem dX0_retreat_69 : decode cX0_retreat 69 = .ok (.bipush 6, 2) := dk_16 6 (dk_at dksX0_retreat_2 22 rfl rfl)
theorem dX0_retreat_71 : decode cX0_retreat 71 = .ok (.if_icmp .ge 86, 3) := dk_162 0 86 (dk_at dksX0_retreat_3 0 rfl rfl)
theorem dX0_retreat_74 : decode cX0_retreat 74 = .ok (.iconst 0, 1) := dk_3 (dk_at dksX0_retreat_3 3 rfl rfl)
theorem dX0_retreat_75 : decode cX0_retreat 75 = .ok (.istore 5, 2) := dk_54 5 (dk_at dksX0_retreat_3 4 rfl rfl)
theorem dX0_retreat_77 : decode cX0_retreat 77 = .ok (.iload 5, 2) := dk_21 5 (dk_at dksX0_retreat_3 6 rfl rfl)
theorem dX0_retreat_79 : decode cX0_retreat 79 = .ok (.aload_n 0, 1) := dk_42 (dk_at dksX0_retreat_3 8 rfl rfl)
theorem dX0_retreat_80 : decode cX0_retreat 80 = .ok (.getfield 43, 3) := dk_180 0 43 (dk_at dksX0_retreat_3 9 rfl rfl)
theorem dX0_retreat_83 : decode cX0_retreat 83 = .ok (.getfield 112, 3) := dk_180 0 112 (dk_at dksX0_retreat_3 12 rfl rfl)
theorem dX0_retreat_86 : decode cX0_retreat 86 = .ok (.if_icmp .ge 65, 3) := dk_162 0 65 (dk_at dksX0_retreat_3 15 rfl rfl)
theorem dX0_retreat_89 : decode cX0_retreat 89 = .ok (.iload 5, 2) := dk_21 5 (dk_at dksX0_retreat_3 18 rfl rfl)
theorem dX0_retreat_91 : decode cX0_retreat 91 = .ok (.iload_n 2, 1) := dk_28 (dk_at dksX0_retreat_3 20 rfl rfl)
theorem dX0_retreat_92 : decode cX0_retreat 92 = .ok (.if_icmp .ne 7, 3) := dk_160 0 7 (dk_at dksX0_retreat_3 21 rfl rfl)
theorem dX0_retreat_95 : decode cX0_retreat 95 = .ok (.iconst (-1), 1) := dk_2 (dk_at dksX0_retreat_4 0 rfl rfl)
theorem dX0_retreat_96 : decode cX0_retreat 96 = .ok (.goto 10, 3) := dk_167 0 10 (dk_at dksX0_retreat_4 1 rfl rfl)
theorem dX0_retreat_99 : decode cX0_retreat 99 = .ok (.aload_n 0, 1) := dk_42 (dk_at dksX0_retreat_4 4 rfl rfl)
theorem dX0_retreat_100 : decode cX0_retreat 100 = .ok (.iload 5, 2) := dk_21 5 (dk_at dksX0_retreat_4 5 rfl rfl)
theorem dX0_retreat_102 : decode cX0_retreat 102 = .ok (.iload_n 2, 1) := dk_28 (dk_at dksX0_retreat_4 7 rfl rfl)
theorem dX0_retreat_103 : decode cX0_retreat 103 = .ok (.invokevirtual 337, 3) := dk_182 1 81 (dk_at dksX0_retreat_4 8 rfl rfl)
theorem dX0_retreat_106 : decode cX0_retreat 106 = .ok (.istore 6, 2) := dk_54 6 (dk_at dksX0_retreat_4 11 rfl rfl)
theorem dX0_retreat_108 : decode cX0_retreat 108 = .ok (.iload 6, 2) := dk_21 6 (dk_at dksX0_retreat_4 13 rfl rfl)
theorem dX0_retreat_110 : decode cX0_retreat 110 = .ok (.iconst (-1), 1) := dk_2 (dk_at dksX0_retreat_4 15 rfl rfl)
theorem dX0_retreat_111 : decode cX0_retreat 111 = .ok (.if_icmp .eq 34, 3) := dk_159 0 34 (dk_at dksX0_retreat_4 16 rfl rfl)
theorem dX0_retreat_114 : decode cX0_retreat 114 = .ok (.aload_n 0, 1) := dk_42 (dk_at dksX0_retreat_4 19 rfl rfl)
theorem dX0_retreat_115 : decode cX0_retreat 115 = .ok (.getfield 88, 3) := dk_180 0 88 (dk_at dksX0_retreat_4 20 rfl rfl)
theorem dX0_retreat_118 : decode cX0_retreat 118 = .ok (.iload 5, 2) := dk_21 5 (dk_at dksX0_retreat_5 0 rfl rfl)
theorem dX0_retreat_120 : decode cX0_retreat 120 = .ok (.aload_n 0, 1) := dk_42 (dk_at dksX0_retreat_5 2 rfl rfl)
theorem dX0_retreat_121 : decode cX0_retreat 121 = .ok (.getfield 43, 3) := dk_180 0 43 (dk_at dksX0_retreat_5 3 rfl rfl)
theorem dX0_retreat_124 : decode cX0_retreat 124 = .ok (.getfield 174, 3) := dk_180 0 174 (dk_at dksX0_retreat_5 6 rfl rfl)
theorem dX0_retreat_127 : decode cX0_retreat 127 = .ok (.bipush 6, 2) := dk_16 6 (dk_at dksX0_retreat_5 9 rfl rfl)
theorem dX0_retreat_129 : decode cX0_retreat 129 = .ok (.iload 5, 2) := dk_21 5 (dk_at dksX0_retreat_5 11 rfl rfl)
theorem dX0_retreat_131 : decode cX0_retreat 131 = .ok (.imul, 1) := dk_104 (dk_at dksX0_retreat_5 13 rfl rfl)
theorem dX0_retreat_132 : decode cX0_retreat 132 = .ok (.iload 6, 2) := dk_21 6 (dk_at dksX0_retreat_5 14 rfl rfl)
theorem dX0_retreat_134 : decode cX0_retreat 134 = .ok (.iadd, 1) := dk_96 (dk_at dksX0_retreat_5 16 rfl rfl)
theorem dX0_retreat_135 : decode cX0_retreat 135 = .ok (.iaload, 1) := dk_46 (dk_at dksX0_retreat_5 17 rfl rfl)
theorem dX0_retreat_136 : decode cX0_retreat 136 = .ok (.aload_n 0, 1) := dk_42 (dk_at dksX0_retreat_5 18 rfl rfl)
theorem dX0_retreat_137 : decode cX0_retreat 137 = .ok (.getfield 88, 3) := dk_180 0 88 (dk_at dksX0_retreat_5 19 rfl rfl)
theorem dX0_retreat_140 : decode cX0_retreat 140 = .ok (.iload 6, 2) := dk_21 6 (dk_at dksX0_retreat_5 22 rfl rfl)
theorem dX0_retreat_142 : decode cX0_retreat 142 = .ok (.iaload, 1) := dk_46 (dk_at dksX0_retreat_6 0 rfl rfl)
theorem dX0_retreat_143 : decode cX0_retreat 143 = .ok (.iadd, 1) := dk_96 (dk_at dksX0_retreat_6 1 rfl rfl)
theorem dX0_retreat_144 : decode cX0_retreat 144 = .ok (.iastore, 1) := dk_79 (dk_at dksX0_retreat_6 2 rfl rfl)
theorem dX0_retreat_145 : decode cX0_retreat 145 = .ok (.iinc 5 1, 3) := dk_132 5 1 (dk_at dksX0_retreat_6 3 rfl rfl)
theorem dX0_retreat_148 : decode cX0_retreat 148 = .ok (.goto (-71), 3) := dk_167 255 185 (dk_at dksX0_retreat_6 6 rfl rfl)
theorem dX0_retreat_151 : decode cX0_retreat 151 = .ok (.iinc 4 1, 3) := dk_132 4 1 (dk_at dksX0_retreat_6 9 rfl rfl)
theorem dX0_retreat_154 : decode cX0_retreat 154 = .ok (.goto (-87), 3) := dk_167 255 169 (dk_at dksX0_retreat_6 12 rfl rfl)
theorem dX0_retreat_157 : decode cX0_retreat 157 = .ok (.aload_n 0, 1) := dk_42 (dk_at dksX0_retreat_6 15 rfl rfl)
theorem dX0_retreat_158 : decode cX0_retreat 158 = .ok (.getfield 88, 3) := dk_180 0 88 (dk_at dksX0_retreat_6 16 rfl rfl)
theorem dX0_retreat_161 : decode cX0_retreat 161 = .ok (.iload_n 1, 1) := dk_27 (dk_at dksX0_retreat_6 19 rfl rfl)
theorem dX0_retreat_162 : decode cX0_retreat 162 = .ok (.iaload, 1) := dk_46 (dk_at dksX0_retreat_6 20 rfl rfl)
theorem dX0_retreat_163 : decode cX0_retreat 163 = .ok (.ldc_w 327, 3) := dk_19 1 71 (dk_at dksX0_retreat_6 21 rfl rfl)
theorem dX0_retreat_166 : decode cX0_retreat 166 = .ok (.if_icmp .eq 8, 3) := dk_159 0 8 (dk_at dksX0_retreat_7 0 rfl rfl)
theorem dX0_retreat_169 : decode cX0_retreat 169 = .ok (.iload_n 3, 1) := dk_29 (dk_at dksX0_retreat_7 3 rfl rfl)
theorem dX0_retreat_170 : decode cX0_retreat 170 = .ok (.iconst (-1), 1) := dk_2 (dk_at dksX0_retreat_7 4 rfl rfl)
theorem dX0_retreat_171 : decode cX0_retreat 171 = .ok (.if_icmp .ne 26, 3) := dk_160 0 26 (dk_at dksX0_retreat_7 5 rfl rfl)
theorem dX0_retreat_174 : decode cX0_retreat 174 = .ok (.aload_n 0, 1) := dk_42 (dk_at dksX0_retreat_7 8 rfl rfl)
theorem dX0_retreat_175 : decode cX0_retreat 175 = .ok (.getfield 88, 3) := dk_180 0 88 (dk_at dksX0_retreat_7 9 rfl rfl)
theorem dX0_retreat_178 : decode cX0_retreat 178 = .ok (.iload_n 1, 1) := dk_27 (dk_at dksX0_retreat_7 12 rfl rfl)
theorem dX0_retreat_179 : decode cX0_retreat 179 = .ok (.iaload, 1) := dk_46 (dk_at dksX0_retreat_7 13 rfl rfl)
theorem dX0_retreat_180 : decode cX0_retreat 180 = .ok (.ldc_w 327, 3) := dk_19 1 71 (dk_at dksX0_retreat_7 14 rfl rfl)
theorem dX0_retreat_183 : decode cX0_retreat 183 = .ok (.if_icmp .ne 7, 3) := dk_160 0 7 (dk_at dksX0_retreat_7 17 rfl rfl)
theorem dX0_retreat_186 : decode cX0_retreat 186 = .ok (.iconst (-1), 1) := dk_2 (dk_at dksX0_retreat_7 20 rfl rfl)
theorem dX0_retreat_187 : decode cX0_retreat 187 = .ok (.goto 9, 3) := dk_167 0 9 (dk_at dksX0_retreat_7 21 rfl rfl)
theorem dX0_retreat_190 : decode cX0_retreat 190 = .ok (.aload_n 0, 1) := dk_42 (dk_at dksX0_retreat_8 0 rfl rfl)
theorem dX0_retreat_191 : decode cX0_retreat 191 = .ok (.getfield 88, 3) := dk_180 0 88 (dk_at dksX0_retreat_8 1 rfl rfl)
theorem dX0_retreat_194 : decode cX0_retreat 194 = .ok (.iload_n 1, 1) := dk_27 (dk_at dksX0_retreat_8 4 rfl rfl)
theorem dX0_retreat_195 : decode cX0_retreat 195 = .ok (.iaload, 1) := dk_46 (dk_at dksX0_retreat_8 5 rfl rfl)
theorem dX0_retreat_196 : decode cX0_retreat 196 = .ok (.ireturn, 1) := dk_172 (dk_at dksX0_retreat_8 6 rfl rfl)
theorem dX0_retreat_197 : decode cX0_retreat 197 = .ok (.iload_n 1, 1) := dk_27 (dk_at dksX0_retreat_8 7 rfl rfl)
theorem dX0_retreat_198 : decode cX0_retreat 198 = .ok (.istore 4, 2) := dk_54 4 (dk_at dksX0_retreat_8 8 rfl rfl)
theorem dX0_retreat_200 : decode cX0_retreat 200 = .ok (.iconst 0, 1) := dk_3 (dk_at dksX0_retreat_8 10 rfl rfl)
theorem dX0_retreat_201 : decode cX0_retreat 201 = .ok (.istore 5, 2) := dk_54 5 (dk_at dksX0_retreat_8 11 rfl rfl)
theorem dX0_retreat_203 : decode cX0_retreat 203 = .ok (.iload 5, 2) := dk_21 5 (dk_at dksX0_retreat_8 13 rfl rfl)
theorem dX0_retreat_205 : decode cX0_retreat 205 = .ok (.iload_n 3, 1) := dk_29 (dk_at dksX0_retreat_8 15 rfl rfl)
theorem dX0_retreat_206 : decode cX0_retreat 206 = .ok (.if_icmp .gt 26, 3) := dk_163 0 26 (dk_at dksX0_retreat_8 16 rfl rfl)
theorem dX0_retreat_209 : decode cX0_retreat 209 = .ok (.iload 4, 2) := dk_21 4 (dk_at dksX0_retreat_8 19 rfl rfl)
theorem dX0_retreat_211 : decode cX0_retreat 211 = .ok (.iload_n 2, 1) := dk_28 (dk_at dksX0_retreat_8 21 rfl rfl)
theorem dX0_retreat_212 : decode cX0_retreat 212 = .ok (.if_icmp .ne 5, 3) := dk_160 0 5 (dk_at dksX0_retreat_9 0 rfl rfl)
theorem dX0_retreat_215 : decode cX0_retreat 215 = .ok (.iconst (-1), 1) := dk_2 (dk_at dksX0_retreat_9 3 rfl rfl)
theorem dX0_retreat_216 : decode cX0_retreat 216 = .ok (.ireturn, 1) := dk_172 (dk_at dksX0_retreat_9 4 rfl rfl)
theorem dX0_retreat_217 : decode cX0_retreat 217 = .ok (.aload_n 0, 1) := dk_42 (dk_at dksX0_retreat_9 5 rfl rfl)
theorem dX0_retreat_218 : decode cX0_retreat 218 = .ok (.iload 4, 2) := dk_21 4 (dk_at dksX0_retreat_9 6 rfl rfl)
theorem dX0_retreat_220 : decode cX0_retreat 220 = .ok (.iload_n 2, 1) := dk_28 (dk_at dksX0_retreat_9 8 rfl rfl)
theorem dX0_retreat_221 : decode cX0_retreat 221 = .ok (.invokevirtual 337, 3) := dk_182 1 81 (dk_at dksX0_retreat_9 9 rfl rfl)
theorem dX0_retreat_224 : decode cX0_retreat 224 = .ok (.istore 4, 2) := dk_54 4 (dk_at dksX0_retreat_9 12 rfl rfl)
theorem dX0_retreat_226 : decode cX0_retreat 226 = .ok (.iinc 5 1, 3) := dk_132 5 1 (dk_at dksX0_retreat_9 14 rfl rfl)
theorem dX0_retreat_229 : decode cX0_retreat 229 = .ok (.goto (-26), 3) := dk_167 255 230 (dk_at dksX0_retreat_9 17 rfl rfl)
theorem dX0_retreat_232 : decode cX0_retreat 232 = .ok (.iload 4, 2) := dk_21 4 (dk_at dksX0_retreat_9 20 rfl rfl)
theorem dX0_retreat_234 : decode cX0_retreat 234 = .ok (.ireturn, 1) := dk_172 (dk_at dksX0_retreat_9 22 rfl rfl)
abbrev cX0_goesOn : ByteArray := prog_1_method_60_code
def yX0_goesOn : MethodName := ⟨RX0, "goesOn", "(II)I"⟩
def dkwX0_goesOn_5 : List UInt8 := [132, 4, 1, 167, 255, 143, 29, 172]
abbrev dktX0_goesOn_5 : List UInt8 := dkwX0_goesOn_5 ++ []
def dkwX0_goesOn_4 : List UInt8 := [180, 0, 174, 16, 6, 27, 104, 29, 96, 46, 42, 180, 0, 88, 29, 46, 96, 162, 0, 6, 21, 4, 62]
abbrev dktX0_goesOn_4 : List UInt8 := dkwX0_goesOn_4 ++ dktX0_goesOn_5
def dkwX0_goesOn_3 : List UInt8 := [167, 0, 45, 29, 2, 159, 0, 37, 21, 5, 42, 180, 0, 88, 21, 4, 46, 96, 42, 180, 0, 43]
abbrev dktX0_goesOn_3 : List UInt8 := dkwX0_goesOn_3 ++ dktX0_goesOn_4
def dkwX0_goesOn_2 : List UInt8 := [19, 1, 71, 159, 0, 66, 21, 4, 28, 159, 0, 18, 42, 182, 0, 132, 21, 4, 182, 0, 155, 153, 0, 6]
abbrev dktX0_goesOn_2 : List UInt8 := dkwX0_goesOn_2 ++ dktX0_goesOn_3
def dkwX0_goesOn_1 : List UInt8 := [16, 6, 27, 104, 21, 4, 96, 46, 54, 5, 21, 5, 153, 0, 79, 42, 180, 0, 88, 21, 4, 46]
abbrev dktX0_goesOn_1 : List UInt8 := dkwX0_goesOn_1 ++ dktX0_goesOn_2
def dkwX0_goesOn_0 : List UInt8 := [2, 62, 3, 54, 4, 21, 4, 42, 180, 0, 43, 180, 0, 112, 162, 0, 107, 42, 180, 0, 43, 180, 0, 174]
abbrev dktX0_goesOn_0 : List UInt8 := dkwX0_goesOn_0 ++ dktX0_goesOn_1
theorem dksX0_goesOn_0 : cX0_goesOn.data.toList.drop 0 = dktX0_goesOn_0 := by decide +kernel
theorem dksX0_goesOn_1 : cX0_goesOn.data.toList.drop 24 = dktX0_goesOn_1 := dk_seg dksX0_goesOn_0 24 rfl rfl
theorem dksX0_goesOn_2 : cX0_goesOn.data.toList.drop 46 = dktX0_goesOn_2 := dk_seg dksX0_goesOn_1 22 rfl rfl
theorem dksX0_goesOn_3 : cX0_goesOn.data.toList.drop 70 = dktX0_goesOn_3 := dk_seg dksX0_goesOn_2 24 rfl rfl
theorem dksX0_goesOn_4 : cX0_goesOn.data.toList.drop 92 = dktX0_goesOn_4 := dk_seg dksX0_goesOn_3 22 rfl rfl
theorem dksX0_goesOn_5 : cX0_goesOn.data.toList.drop 115 = dktX0_goesOn_5 := dk_seg dksX0_goesOn_4 23 rfl rfl
theorem dX0_goesOn_0 : decode cX0_goesOn 0 = .ok (.iconst (-1), 1) := dk_2 (dk_at dksX0_goesOn_0 0 rfl rfl)
theorem dX0_goesOn_1 : decode cX0_goesOn 1 = .ok (.istore_n 3, 1) := dk_62 (dk_at dksX0_goesOn_0 1 rfl rfl)
theorem dX0_goesOn_2 : decode cX0_goesOn 2 = .ok (.iconst 0, 1) := dk_3 (dk_at dksX0_goesOn_0 2 rfl rfl)
theorem dX0_goesOn_3 : decode cX0_goesOn 3 = .ok (.istore 4, 2) := dk_54 4 (dk_at dksX0_goesOn_0 3 rfl rfl)
theorem dX0_goesOn_5 : decode cX0_goesOn 5 = .ok (.iload 4, 2) := dk_21 4 (dk_at dksX0_goesOn_0 5 rfl rfl)
theorem dX0_goesOn_7 : decode cX0_goesOn 7 = .ok (.aload_n 0, 1) := dk_42 (dk_at dksX0_goesOn_0 7 rfl rfl)
theorem dX0_goesOn_8 : decode cX0_goesOn 8 = .ok (.getfield 43, 3) := dk_180 0 43 (dk_at dksX0_goesOn_0 8 rfl rfl)
theorem dX0_goesOn_11 : decode cX0_goesOn 11 = .ok (.getfield 112, 3) := dk_180 0 112 (dk_at dksX0_goesOn_0 11 rfl rfl)
theorem dX0_goesOn_14 : decode cX0_goesOn 14 = .ok (.if_icmp .ge 107, 3) := dk_162 0 107 (dk_at dksX0_goesOn_0 14 rfl rfl)
theorem dX0_goesOn_17 : decode cX0_goesOn 17 = .ok (.aload_n 0, 1) := dk_42 (dk_at dksX0_goesOn_0 17 rfl rfl)
theorem dX0_goesOn_18 : decode cX0_goesOn 18 = .ok (.getfield 43, 3) := dk_180 0 43 (dk_at dksX0_goesOn_0 18 rfl rfl)
theorem dX0_goesOn_21 : decode cX0_goesOn 21 = .ok (.getfield 174, 3) := dk_180 0 174 (dk_at dksX0_goesOn_0 21 rfl rfl)
theorem dX0_goesOn_24 : decode cX0_goesOn 24 = .ok (.bipush 6, 2) := dk_16 6 (dk_at dksX0_goesOn_1 0 rfl rfl)
theorem dX0_goesOn_26 : decode cX0_goesOn 26 = .ok (.iload_n 1, 1) := dk_27 (dk_at dksX0_goesOn_1 2 rfl rfl)
theorem dX0_goesOn_27 : decode cX0_goesOn 27 = .ok (.imul, 1) := dk_104 (dk_at dksX0_goesOn_1 3 rfl rfl)
theorem dX0_goesOn_28 : decode cX0_goesOn 28 = .ok (.iload 4, 2) := dk_21 4 (dk_at dksX0_goesOn_1 4 rfl rfl)
theorem dX0_goesOn_30 : decode cX0_goesOn 30 = .ok (.iadd, 1) := dk_96 (dk_at dksX0_goesOn_1 6 rfl rfl)
theorem dX0_goesOn_31 : decode cX0_goesOn 31 = .ok (.iaload, 1) := dk_46 (dk_at dksX0_goesOn_1 7 rfl rfl)
theorem dX0_goesOn_32 : decode cX0_goesOn 32 = .ok (.istore 5, 2) := dk_54 5 (dk_at dksX0_goesOn_1 8 rfl rfl)
theorem dX0_goesOn_34 : decode cX0_goesOn 34 = .ok (.iload 5, 2) := dk_21 5 (dk_at dksX0_goesOn_1 10 rfl rfl)
theorem dX0_goesOn_36 : decode cX0_goesOn 36 = .ok (.ifCond .eq 79, 3) := dk_153 0 79 (dk_at dksX0_goesOn_1 12 rfl rfl)
theorem dX0_goesOn_39 : decode cX0_goesOn 39 = .ok (.aload_n 0, 1) := dk_42 (dk_at dksX0_goesOn_1 15 rfl rfl)
theorem dX0_goesOn_40 : decode cX0_goesOn 40 = .ok (.getfield 88, 3) := dk_180 0 88 (dk_at dksX0_goesOn_1 16 rfl rfl)
theorem dX0_goesOn_43 : decode cX0_goesOn 43 = .ok (.iload 4, 2) := dk_21 4 (dk_at dksX0_goesOn_1 19 rfl rfl)
theorem dX0_goesOn_45 : decode cX0_goesOn 45 = .ok (.iaload, 1) := dk_46 (dk_at dksX0_goesOn_1 21 rfl rfl)
theorem dX0_goesOn_46 : decode cX0_goesOn 46 = .ok (.ldc_w 327, 3) := dk_19 1 71 (dk_at dksX0_goesOn_2 0 rfl rfl)
theorem dX0_goesOn_49 : decode cX0_goesOn 49 = .ok (.if_icmp .eq 66, 3) := dk_159 0 66 (dk_at dksX0_goesOn_2 3 rfl rfl)
theorem dX0_goesOn_52 : decode cX0_goesOn 52 = .ok (.iload 4, 2) := dk_21 4 (dk_at dksX0_goesOn_2 6 rfl rfl)
theorem dX0_goesOn_54 : decode cX0_goesOn 54 = .ok (.iload_n 2, 1) := dk_28 (dk_at dksX0_goesOn_2 8 rfl rfl)
theorem dX0_goesOn_55 : decode cX0_goesOn 55 = .ok (.if_icmp .eq 18, 3) := dk_159 0 18 (dk_at dksX0_goesOn_2 9 rfl rfl)
theorem dX0_goesOn_58 : decode cX0_goesOn 58 = .ok (.aload_n 0, 1) := dk_42 (dk_at dksX0_goesOn_2 12 rfl rfl)
theorem dX0_goesOn_59 : decode cX0_goesOn 59 = .ok (.invokevirtual 132, 3) := dk_182 0 132 (dk_at dksX0_goesOn_2 13 rfl rfl)
theorem dX0_goesOn_62 : decode cX0_goesOn 62 = .ok (.iload 4, 2) := dk_21 4 (dk_at dksX0_goesOn_2 16 rfl rfl)
theorem dX0_goesOn_64 : decode cX0_goesOn 64 = .ok (.invokevirtual 155, 3) := dk_182 0 155 (dk_at dksX0_goesOn_2 18 rfl rfl)
theorem dX0_goesOn_67 : decode cX0_goesOn 67 = .ok (.ifCond .eq 6, 3) := dk_153 0 6 (dk_at dksX0_goesOn_2 21 rfl rfl)
theorem dX0_goesOn_70 : decode cX0_goesOn 70 = .ok (.goto 45, 3) := dk_167 0 45 (dk_at dksX0_goesOn_3 0 rfl rfl)
theorem dX0_goesOn_73 : decode cX0_goesOn 73 = .ok (.iload_n 3, 1) := dk_29 (dk_at dksX0_goesOn_3 3 rfl rfl)
theorem dX0_goesOn_74 : decode cX0_goesOn 74 = .ok (.iconst (-1), 1) := dk_2 (dk_at dksX0_goesOn_3 4 rfl rfl)
theorem dX0_goesOn_75 : decode cX0_goesOn 75 = .ok (.if_icmp .eq 37, 3) := dk_159 0 37 (dk_at dksX0_goesOn_3 5 rfl rfl)
theorem dX0_goesOn_78 : decode cX0_goesOn 78 = .ok (.iload 5, 2) := dk_21 5 (dk_at dksX0_goesOn_3 8 rfl rfl)
theorem dX0_goesOn_80 : decode cX0_goesOn 80 = .ok (.aload_n 0, 1) := dk_42 (dk_at dksX0_goesOn_3 10 rfl rfl)
theorem dX0_goesOn_81 : decode cX0_goesOn 81 = .ok (.getfield 88, 3) := dk_180 0 88 (dk_at dksX0_goesOn_3 11 rfl rfl)
theorem dX0_goesOn_84 : decode cX0_goesOn 84 = .ok (.iload 4, 2) := dk_21 4 (dk_at dksX0_goesOn_3 14 rfl rfl)
theorem dX0_goesOn_86 : decode cX0_goesOn 86 = .ok (.iaload, 1) := dk_46 (dk_at dksX0_goesOn_3 16 rfl rfl)
theorem dX0_goesOn_87 : decode cX0_goesOn 87 = .ok (.iadd, 1) := dk_96 (dk_at dksX0_goesOn_3 17 rfl rfl)
theorem dX0_goesOn_88 : decode cX0_goesOn 88 = .ok (.aload_n 0, 1) := dk_42 (dk_at dksX0_goesOn_3 18 rfl rfl)
theorem dX0_goesOn_89 : decode cX0_goesOn 89 = .ok (.getfield 43, 3) := dk_180 0 43 (dk_at dksX0_goesOn_3 19 rfl rfl)
theorem dX0_goesOn_92 : decode cX0_goesOn 92 = .ok (.getfield 174, 3) := dk_180 0 174 (dk_at dksX0_goesOn_4 0 rfl rfl)
theorem dX0_goesOn_95 : decode cX0_goesOn 95 = .ok (.bipush 6, 2) := dk_16 6 (dk_at dksX0_goesOn_4 3 rfl rfl)
theorem dX0_goesOn_97 : decode cX0_goesOn 97 = .ok (.iload_n 1, 1) := dk_27 (dk_at dksX0_goesOn_4 5 rfl rfl)
theorem dX0_goesOn_98 : decode cX0_goesOn 98 = .ok (.imul, 1) := dk_104 (dk_at dksX0_goesOn_4 6 rfl rfl)
theorem dX0_goesOn_99 : decode cX0_goesOn 99 = .ok (.iload_n 3, 1) := dk_29 (dk_at dksX0_goesOn_4 7 rfl rfl)
theorem dX0_goesOn_100 : decode cX0_goesOn 100 = .ok (.iadd, 1) := dk_96 (dk_at dksX0_goesOn_4 8 rfl rfl)
theorem dX0_goesOn_101 : decode cX0_goesOn 101 = .ok (.iaload, 1) := dk_46 (dk_at dksX0_goesOn_4 9 rfl rfl)
theorem dX0_goesOn_102 : decode cX0_goesOn 102 = .ok (.aload_n 0, 1) := dk_42 (dk_at dksX0_goesOn_4 10 rfl rfl)
theorem dX0_goesOn_103 : decode cX0_goesOn 103 = .ok (.getfield 88, 3) := dk_180 0 88 (dk_at dksX0_goesOn_4 11 rfl rfl)
theorem dX0_goesOn_106 : decode cX0_goesOn 106 = .ok (.iload_n 3, 1) := dk_29 (dk_at dksX0_goesOn_4 14 rfl rfl)
theorem dX0_goesOn_107 : decode cX0_goesOn 107 = .ok (.iaload, 1) := dk_46 (dk_at dksX0_goesOn_4 15 rfl rfl)
theorem dX0_goesOn_108 : decode cX0_goesOn 108 = .ok (.iadd, 1) := dk_96 (dk_at dksX0_goesOn_4 16 rfl rfl)
theorem dX0_goesOn_109 : decode cX0_goesOn 109 = .ok (.if_icmp .ge 6, 3) := dk_162 0 6 (dk_at dksX0_goesOn_4 17 rfl rfl)
theorem dX0_goesOn_112 : decode cX0_goesOn 112 = .ok (.iload 4, 2) := dk_21 4 (dk_at dksX0_goesOn_4 20 rfl rfl)
theorem dX0_goesOn_114 : decode cX0_goesOn 114 = .ok (.istore_n 3, 1) := dk_62 (dk_at dksX0_goesOn_4 22 rfl rfl)
theorem dX0_goesOn_115 : decode cX0_goesOn 115 = .ok (.iinc 4 1, 3) := dk_132 4 1 (dk_at dksX0_goesOn_5 0 rfl rfl)
theorem dX0_goesOn_118 : decode cX0_goesOn 118 = .ok (.goto (-113), 3) := dk_167 255 143 (dk_at dksX0_goesOn_5 3 rfl rfl)
theorem dX0_goesOn_121 : decode cX0_goesOn 121 = .ok (.iload_n 3, 1) := dk_29 (dk_at dksX0_goesOn_5 6 rfl rfl)
theorem dX0_goesOn_122 : decode cX0_goesOn 122 = .ok (.ireturn, 1) := dk_172 (dk_at dksX0_goesOn_5 7 rfl rfl)
abbrev cX0_game : ByteArray := prog_1_method_64_code
def yX0_game : MethodName := ⟨RX0, "game", "(IIIII)I"⟩
def dkwX0_game_8 : List UInt8 := [28, 29, 104, 100, 21, 7, 21, 5, 5, 160, 0, 7, 4, 167, 0, 4, 3, 184, 1, 88, 172]
abbrev dktX0_game_8 : List UInt8 := dkwX0_game_8 ++ []
def dkwX0_game_7 : List UInt8 := [29, 100, 21, 7, 21, 5, 154, 0, 7, 4, 167, 0, 4, 3, 184, 1, 88, 167, 0, 27, 27, 21, 4, 104]
abbrev dktX0_game_7 : List UInt8 := dkwX0_game_7 ++ dktX0_game_8
def dkwX0_game_6 : List UInt8 := [132, 7, 1, 167, 255, 179, 27, 28, 100, 21, 4, 96, 29, 100, 54, 7, 21, 5, 5, 162, 0, 25, 21, 4]
abbrev dktX0_game_6 : List UInt8 := dkwX0_game_6 ++ dktX0_game_7
def dkwX0_game_5 : List UInt8 := [4, 167, 0, 22, 3, 167, 0, 18, 21, 5, 5, 160, 0, 11, 25, 6, 21, 7, 46, 167, 0, 4, 4, 172]
abbrev dktX0_game_5 : List UInt8 := dkwX0_game_5 ++ dktX0_game_6
def dkwX0_game_4 : List UInt8 := [25, 6, 21, 7, 5, 130, 46, 162, 0, 6, 167, 0, 38, 21, 5, 154, 0, 17, 21, 7, 5, 162, 0, 7]
abbrev dktX0_game_4 : List UInt8 := dkwX0_game_4 ++ dktX0_game_5
def dkwX0_game_3 : List UInt8 := [162, 0, 77, 25, 6, 21, 7, 46, 25, 6, 21, 7, 4, 130, 46, 163, 0, 56, 25, 6, 21, 7, 46]
abbrev dktX0_game_3 : List UInt8 := dkwX0_game_3 ++ dktX0_game_4
def dkwX0_game_2 : List UInt8 := [3, 27, 79, 89, 4, 28, 79, 89, 5, 29, 79, 89, 6, 21, 4, 79, 58, 6, 3, 54, 7, 21, 7, 7]
abbrev dktX0_game_2 : List UInt8 := dkwX0_game_2 ++ dktX0_game_3
def dkwX0_game_1 : List UInt8 := [184, 1, 84, 153, 0, 13, 21, 5, 3, 6, 184, 0, 26, 154, 0, 7, 19, 1, 87, 172, 7, 188, 10, 89]
abbrev dktX0_game_1 : List UInt8 := dkwX0_game_1 ++ dktX0_game_2
def dkwX0_game_0 : List UInt8 := [27, 184, 1, 84, 153, 0, 35, 28, 184, 1, 84, 153, 0, 28, 29, 184, 1, 84, 153, 0, 21, 21, 4]
abbrev dktX0_game_0 : List UInt8 := dkwX0_game_0 ++ dktX0_game_1
theorem dksX0_game_0 : cX0_game.data.toList.drop 0 = dktX0_game_0 := by decide +kernel
theorem dksX0_game_1 : cX0_game.data.toList.drop 23 = dktX0_game_1 := dk_seg dksX0_game_0 23 rfl rfl
theorem dksX0_game_2 : cX0_game.data.toList.drop 47 = dktX0_game_2 := dk_seg dksX0_game_1 24 rfl rfl
theorem dksX0_game_3 : cX0_game.data.toList.drop 71 = dktX0_game_3 := dk_seg dksX0_game_2 24 rfl rfl
theorem dksX0_game_4 : cX0_game.data.toList.drop 94 = dktX0_game_4 := dk_seg dksX0_game_3 23 rfl rfl
theorem dksX0_game_5 : cX0_game.data.toList.drop 118 = dktX0_game_5 := dk_seg dksX0_game_4 24 rfl rfl
theorem dksX0_game_6 : cX0_game.data.toList.drop 142 = dktX0_game_6 := dk_seg dksX0_game_5 24 rfl rfl
theorem dksX0_game_7 : cX0_game.data.toList.drop 166 = dktX0_game_7 := dk_seg dksX0_game_6 24 rfl rfl
theorem dksX0_game_8 : cX0_game.data.toList.drop 190 = dktX0_game_8 := dk_seg dksX0_game_7 24 rfl rfl
theorem dX0_game_0 : decode cX0_game 0 = .ok (.iload_n 1, 1) := dk_27 (dk_at dksX0_game_0 0 rfl rfl)
theorem dX0_game_1 : decode cX0_game 1 = .ok (.invokestatic 340, 3) := dk_184 1 84 (dk_at dksX0_game_0 1 rfl rfl)
theorem dX0_game_4 : decode cX0_game 4 = .ok (.ifCond .eq 35, 3) := dk_153 0 35 (dk_at dksX0_game_0 4 rfl rfl)
theorem dX0_game_7 : decode cX0_game 7 = .ok (.iload_n 2, 1) := dk_28 (dk_at dksX0_game_0 7 rfl rfl)
theorem dX0_game_8 : decode cX0_game 8 = .ok (.invokestatic 340, 3) := dk_184 1 84 (dk_at dksX0_game_0 8 rfl rfl)
theorem dX0_game_11 : decode cX0_game 11 = .ok (.ifCond .eq 28, 3) := dk_153 0 28 (dk_at dksX0_game_0 11 rfl rfl)
theorem dX0_game_14 : decode cX0_game 14 = .ok (.iload_n 3, 1) := dk_29 (dk_at dksX0_game_0 14 rfl rfl)
theorem dX0_game_15 : decode cX0_game 15 = .ok (.invokestatic 340, 3) := dk_184 1 84 (dk_at dksX0_game_0 15 rfl rfl)
theorem dX0_game_18 : decode cX0_game 18 = .ok (.ifCond .eq 21, 3) := dk_153 0 21 (dk_at dksX0_game_0 18 rfl rfl)
theorem dX0_game_21 : decode cX0_game 21 = .ok (.iload 4, 2) := dk_21 4 (dk_at dksX0_game_0 21 rfl rfl)
theorem dX0_game_23 : decode cX0_game 23 = .ok (.invokestatic 340, 3) := dk_184 1 84 (dk_at dksX0_game_1 0 rfl rfl)
theorem dX0_game_26 : decode cX0_game 26 = .ok (.ifCond .eq 13, 3) := dk_153 0 13 (dk_at dksX0_game_1 3 rfl rfl)
theorem dX0_game_29 : decode cX0_game 29 = .ok (.iload 5, 2) := dk_21 5 (dk_at dksX0_game_1 6 rfl rfl)
theorem dX0_game_31 : decode cX0_game 31 = .ok (.iconst 0, 1) := dk_3 (dk_at dksX0_game_1 8 rfl rfl)
theorem dX0_game_32 : decode cX0_game 32 = .ok (.iconst 3, 1) := dk_6 (dk_at dksX0_game_1 9 rfl rfl)
theorem dX0_game_33 : decode cX0_game 33 = .ok (.invokestatic 26, 3) := dk_184 0 26 (dk_at dksX0_game_1 10 rfl rfl)
theorem dX0_game_36 : decode cX0_game 36 = .ok (.ifCond .ne 7, 3) := dk_154 0 7 (dk_at dksX0_game_1 13 rfl rfl)
theorem dX0_game_39 : decode cX0_game 39 = .ok (.ldc_w 343, 3) := dk_19 1 87 (dk_at dksX0_game_1 16 rfl rfl)
theorem dX0_game_42 : decode cX0_game 42 = .ok (.ireturn, 1) := dk_172 (dk_at dksX0_game_1 19 rfl rfl)
theorem dX0_game_43 : decode cX0_game 43 = .ok (.iconst 4, 1) := dk_7 (dk_at dksX0_game_1 20 rfl rfl)
theorem dX0_game_44 : decode cX0_game 44 = .ok (.newarray .int, 2) := dk_188_10 (dk_at dksX0_game_1 21 rfl rfl)
theorem dX0_game_46 : decode cX0_game 46 = .ok (.dup, 1) := dk_89 (dk_at dksX0_game_1 23 rfl rfl)
theorem dX0_game_47 : decode cX0_game 47 = .ok (.iconst 0, 1) := dk_3 (dk_at dksX0_game_2 0 rfl rfl)
theorem dX0_game_48 : decode cX0_game 48 = .ok (.iload_n 1, 1) := dk_27 (dk_at dksX0_game_2 1 rfl rfl)
theorem dX0_game_49 : decode cX0_game 49 = .ok (.iastore, 1) := dk_79 (dk_at dksX0_game_2 2 rfl rfl)
theorem dX0_game_50 : decode cX0_game 50 = .ok (.dup, 1) := dk_89 (dk_at dksX0_game_2 3 rfl rfl)
theorem dX0_game_51 : decode cX0_game 51 = .ok (.iconst 1, 1) := dk_4 (dk_at dksX0_game_2 4 rfl rfl)
theorem dX0_game_52 : decode cX0_game 52 = .ok (.iload_n 2, 1) := dk_28 (dk_at dksX0_game_2 5 rfl rfl)
theorem dX0_game_53 : decode cX0_game 53 = .ok (.iastore, 1) := dk_79 (dk_at dksX0_game_2 6 rfl rfl)
theorem dX0_game_54 : decode cX0_game 54 = .ok (.dup, 1) := dk_89 (dk_at dksX0_game_2 7 rfl rfl)
theorem dX0_game_55 : decode cX0_game 55 = .ok (.iconst 2, 1) := dk_5 (dk_at dksX0_game_2 8 rfl rfl)
theorem dX0_game_56 : decode cX0_game 56 = .ok (.iload_n 3, 1) := dk_29 (dk_at dksX0_game_2 9 rfl rfl)
theorem dX0_game_57 : decode cX0_game 57 = .ok (.iastore, 1) := dk_79 (dk_at dksX0_game_2 10 rfl rfl)
theorem dX0_game_58 : decode cX0_game 58 = .ok (.dup, 1) := dk_89 (dk_at dksX0_game_2 11 rfl rfl)
theorem dX0_game_59 : decode cX0_game 59 = .ok (.iconst 3, 1) := dk_6 (dk_at dksX0_game_2 12 rfl rfl)
theorem dX0_game_60 : decode cX0_game 60 = .ok (.iload 4, 2) := dk_21 4 (dk_at dksX0_game_2 13 rfl rfl)
theorem dX0_game_62 : decode cX0_game 62 = .ok (.iastore, 1) := dk_79 (dk_at dksX0_game_2 15 rfl rfl)
theorem dX0_game_63 : decode cX0_game 63 = .ok (.astore 6, 2) := dk_58 6 (dk_at dksX0_game_2 16 rfl rfl)
theorem dX0_game_65 : decode cX0_game 65 = .ok (.iconst 0, 1) := dk_3 (dk_at dksX0_game_2 18 rfl rfl)
theorem dX0_game_66 : decode cX0_game 66 = .ok (.istore 7, 2) := dk_54 7 (dk_at dksX0_game_2 19 rfl rfl)
theorem dX0_game_68 : decode cX0_game 68 = .ok (.iload 7, 2) := dk_21 7 (dk_at dksX0_game_2 21 rfl rfl)
theorem dX0_game_70 : decode cX0_game 70 = .ok (.iconst 4, 1) := dk_7 (dk_at dksX0_game_2 23 rfl rfl)
theorem dX0_game_71 : decode cX0_game 71 = .ok (.if_icmp .ge 77, 3) := dk_162 0 77 (dk_at dksX0_game_3 0 rfl rfl)
theorem dX0_game_74 : decode cX0_game 74 = .ok (.aload 6, 2) := dk_25 6 (dk_at dksX0_game_3 3 rfl rfl)
theorem dX0_game_76 : decode cX0_game 76 = .ok (.iload 7, 2) := dk_21 7 (dk_at dksX0_game_3 5 rfl rfl)
theorem dX0_game_78 : decode cX0_game 78 = .ok (.iaload, 1) := dk_46 (dk_at dksX0_game_3 7 rfl rfl)
theorem dX0_game_79 : decode cX0_game 79 = .ok (.aload 6, 2) := dk_25 6 (dk_at dksX0_game_3 8 rfl rfl)
theorem dX0_game_81 : decode cX0_game 81 = .ok (.iload 7, 2) := dk_21 7 (dk_at dksX0_game_3 10 rfl rfl)
theorem dX0_game_83 : decode cX0_game 83 = .ok (.iconst 1, 1) := dk_4 (dk_at dksX0_game_3 12 rfl rfl)
theorem dX0_game_84 : decode cX0_game 84 = .ok (.ixor, 1) := dk_130 (dk_at dksX0_game_3 13 rfl rfl)
theorem dX0_game_85 : decode cX0_game 85 = .ok (.iaload, 1) := dk_46 (dk_at dksX0_game_3 14 rfl rfl)
theorem dX0_game_86 : decode cX0_game 86 = .ok (.if_icmp .gt 56, 3) := dk_163 0 56 (dk_at dksX0_game_3 15 rfl rfl)
theorem dX0_game_89 : decode cX0_game 89 = .ok (.aload 6, 2) := dk_25 6 (dk_at dksX0_game_3 18 rfl rfl)
theorem dX0_game_91 : decode cX0_game 91 = .ok (.iload 7, 2) := dk_21 7 (dk_at dksX0_game_3 20 rfl rfl)
theorem dX0_game_93 : decode cX0_game 93 = .ok (.iaload, 1) := dk_46 (dk_at dksX0_game_3 22 rfl rfl)
theorem dX0_game_94 : decode cX0_game 94 = .ok (.aload 6, 2) := dk_25 6 (dk_at dksX0_game_4 0 rfl rfl)
theorem dX0_game_96 : decode cX0_game 96 = .ok (.iload 7, 2) := dk_21 7 (dk_at dksX0_game_4 2 rfl rfl)
theorem dX0_game_98 : decode cX0_game 98 = .ok (.iconst 2, 1) := dk_5 (dk_at dksX0_game_4 4 rfl rfl)
theorem dX0_game_99 : decode cX0_game 99 = .ok (.ixor, 1) := dk_130 (dk_at dksX0_game_4 5 rfl rfl)
theorem dX0_game_100 : decode cX0_game 100 = .ok (.iaload, 1) := dk_46 (dk_at dksX0_game_4 6 rfl rfl)
theorem dX0_game_101 : decode cX0_game 101 = .ok (.if_icmp .ge 6, 3) := dk_162 0 6 (dk_at dksX0_game_4 7 rfl rfl)
theorem dX0_game_104 : decode cX0_game 104 = .ok (.goto 38, 3) := dk_167 0 38 (dk_at dksX0_game_4 10 rfl rfl)
theorem dX0_game_107 : decode cX0_game 107 = .ok (.iload 5, 2) := dk_21 5 (dk_at dksX0_game_4 13 rfl rfl)
theorem dX0_game_109 : decode cX0_game 109 = .ok (.ifCond .ne 17, 3) := dk_154 0 17 (dk_at dksX0_game_4 15 rfl rfl)
theorem dX0_game_112 : decode cX0_game 112 = .ok (.iload 7, 2) := dk_21 7 (dk_at dksX0_game_4 18 rfl rfl)
theorem dX0_game_114 : decode cX0_game 114 = .ok (.iconst 2, 1) := dk_5 (dk_at dksX0_game_4 20 rfl rfl)
theorem dX0_game_115 : decode cX0_game 115 = .ok (.if_icmp .ge 7, 3) := dk_162 0 7 (dk_at dksX0_game_4 21 rfl rfl)
theorem dX0_game_118 : decode cX0_game 118 = .ok (.iconst 1, 1) := dk_4 (dk_at dksX0_game_5 0 rfl rfl)
theorem dX0_game_119 : decode cX0_game 119 = .ok (.goto 22, 3) := dk_167 0 22 (dk_at dksX0_game_5 1 rfl rfl)
theorem dX0_game_122 : decode cX0_game 122 = .ok (.iconst 0, 1) := dk_3 (dk_at dksX0_game_5 4 rfl rfl)
theorem dX0_game_123 : decode cX0_game 123 = .ok (.goto 18, 3) := dk_167 0 18 (dk_at dksX0_game_5 5 rfl rfl)
theorem dX0_game_126 : decode cX0_game 126 = .ok (.iload 5, 2) := dk_21 5 (dk_at dksX0_game_5 8 rfl rfl)
theorem dX0_game_128 : decode cX0_game 128 = .ok (.iconst 2, 1) := dk_5 (dk_at dksX0_game_5 10 rfl rfl)
theorem dX0_game_129 : decode cX0_game 129 = .ok (.if_icmp .ne 11, 3) := dk_160 0 11 (dk_at dksX0_game_5 11 rfl rfl)
theorem dX0_game_132 : decode cX0_game 132 = .ok (.aload 6, 2) := dk_25 6 (dk_at dksX0_game_5 14 rfl rfl)
theorem dX0_game_134 : decode cX0_game 134 = .ok (.iload 7, 2) := dk_21 7 (dk_at dksX0_game_5 16 rfl rfl)
theorem dX0_game_136 : decode cX0_game 136 = .ok (.iaload, 1) := dk_46 (dk_at dksX0_game_5 18 rfl rfl)
theorem dX0_game_137 : decode cX0_game 137 = .ok (.goto 4, 3) := dk_167 0 4 (dk_at dksX0_game_5 19 rfl rfl)
theorem dX0_game_140 : decode cX0_game 140 = .ok (.iconst 1, 1) := dk_4 (dk_at dksX0_game_5 22 rfl rfl)
theorem dX0_game_141 : decode cX0_game 141 = .ok (.ireturn, 1) := dk_172 (dk_at dksX0_game_5 23 rfl rfl)
theorem dX0_game_142 : decode cX0_game 142 = .ok (.iinc 7 1, 3) := dk_132 7 1 (dk_at dksX0_game_6 0 rfl rfl)
theorem dX0_game_145 : decode cX0_game 145 = .ok (.goto (-77), 3) := dk_167 255 179 (dk_at dksX0_game_6 3 rfl rfl)
theorem dX0_game_148 : decode cX0_game 148 = .ok (.iload_n 1, 1) := dk_27 (dk_at dksX0_game_6 6 rfl rfl)
theorem dX0_game_149 : decode cX0_game 149 = .ok (.iload_n 2, 1) := dk_28 (dk_at dksX0_game_6 7 rfl rfl)
theorem dX0_game_150 : decode cX0_game 150 = .ok (.isub, 1) := dk_100 (dk_at dksX0_game_6 8 rfl rfl)
theorem dX0_game_151 : decode cX0_game 151 = .ok (.iload 4, 2) := dk_21 4 (dk_at dksX0_game_6 9 rfl rfl)
theorem dX0_game_153 : decode cX0_game 153 = .ok (.iadd, 1) := dk_96 (dk_at dksX0_game_6 11 rfl rfl)
theorem dX0_game_154 : decode cX0_game 154 = .ok (.iload_n 3, 1) := dk_29 (dk_at dksX0_game_6 12 rfl rfl)
theorem dX0_game_155 : decode cX0_game 155 = .ok (.isub, 1) := dk_100 (dk_at dksX0_game_6 13 rfl rfl)
theorem dX0_game_156 : decode cX0_game 156 = .ok (.istore 7, 2) := dk_54 7 (dk_at dksX0_game_6 14 rfl rfl)
theorem dX0_game_158 : decode cX0_game 158 = .ok (.iload 5, 2) := dk_21 5 (dk_at dksX0_game_6 16 rfl rfl)
theorem dX0_game_160 : decode cX0_game 160 = .ok (.iconst 2, 1) := dk_5 (dk_at dksX0_game_6 18 rfl rfl)
theorem dX0_game_161 : decode cX0_game 161 = .ok (.if_icmp .ge 25, 3) := dk_162 0 25 (dk_at dksX0_game_6 19 rfl rfl)
theorem dX0_game_164 : decode cX0_game 164 = .ok (.iload 4, 2) := dk_21 4 (dk_at dksX0_game_6 22 rfl rfl)
theorem dX0_game_166 : decode cX0_game 166 = .ok (.iload_n 3, 1) := dk_29 (dk_at dksX0_game_7 0 rfl rfl)
theorem dX0_game_167 : decode cX0_game 167 = .ok (.isub, 1) := dk_100 (dk_at dksX0_game_7 1 rfl rfl)
theorem dX0_game_168 : decode cX0_game 168 = .ok (.iload 7, 2) := dk_21 7 (dk_at dksX0_game_7 2 rfl rfl)
theorem dX0_game_170 : decode cX0_game 170 = .ok (.iload 5, 2) := dk_21 5 (dk_at dksX0_game_7 4 rfl rfl)
theorem dX0_game_172 : decode cX0_game 172 = .ok (.ifCond .ne 7, 3) := dk_154 0 7 (dk_at dksX0_game_7 6 rfl rfl)
theorem dX0_game_175 : decode cX0_game 175 = .ok (.iconst 1, 1) := dk_4 (dk_at dksX0_game_7 9 rfl rfl)
theorem dX0_game_176 : decode cX0_game 176 = .ok (.goto 4, 3) := dk_167 0 4 (dk_at dksX0_game_7 10 rfl rfl)
theorem dX0_game_179 : decode cX0_game 179 = .ok (.iconst 0, 1) := dk_3 (dk_at dksX0_game_7 13 rfl rfl)
theorem dX0_game_180 : decode cX0_game 180 = .ok (.invokestatic 344, 3) := dk_184 1 88 (dk_at dksX0_game_7 14 rfl rfl)
theorem dX0_game_183 : decode cX0_game 183 = .ok (.goto 27, 3) := dk_167 0 27 (dk_at dksX0_game_7 17 rfl rfl)
theorem dX0_game_186 : decode cX0_game 186 = .ok (.iload_n 1, 1) := dk_27 (dk_at dksX0_game_7 20 rfl rfl)
theorem dX0_game_187 : decode cX0_game 187 = .ok (.iload 4, 2) := dk_21 4 (dk_at dksX0_game_7 21 rfl rfl)
theorem dX0_game_189 : decode cX0_game 189 = .ok (.imul, 1) := dk_104 (dk_at dksX0_game_7 23 rfl rfl)
theorem dX0_game_190 : decode cX0_game 190 = .ok (.iload_n 2, 1) := dk_28 (dk_at dksX0_game_8 0 rfl rfl)
theorem dX0_game_191 : decode cX0_game 191 = .ok (.iload_n 3, 1) := dk_29 (dk_at dksX0_game_8 1 rfl rfl)
theorem dX0_game_192 : decode cX0_game 192 = .ok (.imul, 1) := dk_104 (dk_at dksX0_game_8 2 rfl rfl)
theorem dX0_game_193 : decode cX0_game 193 = .ok (.isub, 1) := dk_100 (dk_at dksX0_game_8 3 rfl rfl)
theorem dX0_game_194 : decode cX0_game 194 = .ok (.iload 7, 2) := dk_21 7 (dk_at dksX0_game_8 4 rfl rfl)
theorem dX0_game_196 : decode cX0_game 196 = .ok (.iload 5, 2) := dk_21 5 (dk_at dksX0_game_8 6 rfl rfl)
theorem dX0_game_198 : decode cX0_game 198 = .ok (.iconst 2, 1) := dk_5 (dk_at dksX0_game_8 8 rfl rfl)
theorem dX0_game_199 : decode cX0_game 199 = .ok (.if_icmp .ne 7, 3) := dk_160 0 7 (dk_at dksX0_game_8 9 rfl rfl)
theorem dX0_game_202 : decode cX0_game 202 = .ok (.iconst 1, 1) := dk_4 (dk_at dksX0_game_8 12 rfl rfl)
theorem dX0_game_203 : decode cX0_game 203 = .ok (.goto 4, 3) := dk_167 0 4 (dk_at dksX0_game_8 13 rfl rfl)
theorem dX0_game_206 : decode cX0_game 206 = .ok (.iconst 0, 1) := dk_3 (dk_at dksX0_game_8 16 rfl rfl)
theorem dX0_game_207 : decode cX0_game 207 = .ok (.invokestatic 344, 3) := dk_184 1 88 (dk_at dksX0_game_8 17 rfl rfl)
theorem dX0_game_210 : decode cX0_game 210 = .ok (.ireturn, 1) := dk_172 (dk_at dksX0_game_8 20 rfl rfl)
abbrev cX0_isEntry : ByteArray := prog_1_method_62_code
def yX0_isEntry : MethodName := ⟨RX0, "isEntry", "(I)Z"⟩
def dkwX0_isEntry_0 : List UInt8 := [26, 16, 157, 16, 99, 184, 0, 26, 172]
abbrev dktX0_isEntry_0 : List UInt8 := dkwX0_isEntry_0 ++ []
theorem dksX0_isEntry_0 : cX0_isEntry.data.toList.drop 0 = dktX0_isEntry_0 := by decide +kernel
theorem dX0_isEntry_0 : decode cX0_isEntry 0 = .ok (.iload_n 0, 1) := dk_26 (dk_at dksX0_isEntry_0 0 rfl rfl)
theorem dX0_isEntry_1 : decode cX0_isEntry 1 = .ok (.bipush (-99), 2) := dk_16 157 (dk_at dksX0_isEntry_0 1 rfl rfl)
theorem dX0_isEntry_3 : decode cX0_isEntry 3 = .ok (.bipush 99, 2) := dk_16 99 (dk_at dksX0_isEntry_0 3 rfl rfl)
theorem dX0_isEntry_5 : decode cX0_isEntry 5 = .ok (.invokestatic 26, 3) := dk_184 0 26 (dk_at dksX0_isEntry_0 5 rfl rfl)
theorem dX0_isEntry_8 : decode cX0_isEntry 8 = .ok (.ireturn, 1) := dk_172 (dk_at dksX0_isEntry_0 8 rfl rfl)
abbrev cX0_ofFraction : ByteArray := prog_1_method_63_code
def yX0_ofFraction : MethodName := ⟨RX0, "ofFraction", "(IIZ)I"⟩
def dkwX0_ofFraction_1 : List UInt8 := [28, 153, 0, 10, 26, 21, 4, 108, 167, 0, 7, 27, 21, 4, 108, 172]
abbrev dktX0_ofFraction_1 : List UInt8 := dkwX0_ofFraction_1 ++ []
def dkwX0_ofFraction_0 : List UInt8 := [26, 184, 1, 72, 27, 184, 1, 72, 184, 0, 30, 62, 27, 156, 0, 8, 29, 116, 167, 0, 4, 29, 54, 4]
abbrev dktX0_ofFraction_0 : List UInt8 := dkwX0_ofFraction_0 ++ dktX0_ofFraction_1
theorem dksX0_ofFraction_0 : cX0_ofFraction.data.toList.drop 0 = dktX0_ofFraction_0 := by decide +kernel
theorem dksX0_ofFraction_1 : cX0_ofFraction.data.toList.drop 24 = dktX0_ofFraction_1 := dk_seg dksX0_ofFraction_0 24 rfl rfl
theorem dX0_ofFraction_0 : decode cX0_ofFraction 0 = .ok (.iload_n 0, 1) := dk_26 (dk_at dksX0_ofFraction_0 0 rfl rfl)
theorem dX0_ofFraction_1 : decode cX0_ofFraction 1 = .ok (.invokestatic 328, 3) := dk_184 1 72 (dk_at dksX0_ofFraction_0 1 rfl rfl)
theorem dX0_ofFraction_4 : decode cX0_ofFraction 4 = .ok (.iload_n 1, 1) := dk_27 (dk_at dksX0_ofFraction_0 4 rfl rfl)
theorem dX0_ofFraction_5 : decode cX0_ofFraction 5 = .ok (.invokestatic 328, 3) := dk_184 1 72 (dk_at dksX0_ofFraction_0 5 rfl rfl)
theorem dX0_ofFraction_8 : decode cX0_ofFraction 8 = .ok (.invokestatic 30, 3) := dk_184 0 30 (dk_at dksX0_ofFraction_0 8 rfl rfl)
theorem dX0_ofFraction_11 : decode cX0_ofFraction 11 = .ok (.istore_n 3, 1) := dk_62 (dk_at dksX0_ofFraction_0 11 rfl rfl)
theorem dX0_ofFraction_12 : decode cX0_ofFraction 12 = .ok (.iload_n 1, 1) := dk_27 (dk_at dksX0_ofFraction_0 12 rfl rfl)
theorem dX0_ofFraction_13 : decode cX0_ofFraction 13 = .ok (.ifCond .ge 8, 3) := dk_156 0 8 (dk_at dksX0_ofFraction_0 13 rfl rfl)
theorem dX0_ofFraction_16 : decode cX0_ofFraction 16 = .ok (.iload_n 3, 1) := dk_29 (dk_at dksX0_ofFraction_0 16 rfl rfl)
theorem dX0_ofFraction_17 : decode cX0_ofFraction 17 = .ok (.ineg, 1) := dk_116 (dk_at dksX0_ofFraction_0 17 rfl rfl)
theorem dX0_ofFraction_18 : decode cX0_ofFraction 18 = .ok (.goto 4, 3) := dk_167 0 4 (dk_at dksX0_ofFraction_0 18 rfl rfl)
theorem dX0_ofFraction_21 : decode cX0_ofFraction 21 = .ok (.iload_n 3, 1) := dk_29 (dk_at dksX0_ofFraction_0 21 rfl rfl)
theorem dX0_ofFraction_22 : decode cX0_ofFraction 22 = .ok (.istore 4, 2) := dk_54 4 (dk_at dksX0_ofFraction_0 22 rfl rfl)
theorem dX0_ofFraction_24 : decode cX0_ofFraction 24 = .ok (.iload_n 2, 1) := dk_28 (dk_at dksX0_ofFraction_1 0 rfl rfl)
theorem dX0_ofFraction_25 : decode cX0_ofFraction 25 = .ok (.ifCond .eq 10, 3) := dk_153 0 10 (dk_at dksX0_ofFraction_1 1 rfl rfl)
theorem dX0_ofFraction_28 : decode cX0_ofFraction 28 = .ok (.iload_n 0, 1) := dk_26 (dk_at dksX0_ofFraction_1 4 rfl rfl)
theorem dX0_ofFraction_29 : decode cX0_ofFraction 29 = .ok (.iload 4, 2) := dk_21 4 (dk_at dksX0_ofFraction_1 5 rfl rfl)
theorem dX0_ofFraction_31 : decode cX0_ofFraction 31 = .ok (.idiv, 1) := dk_108 (dk_at dksX0_ofFraction_1 7 rfl rfl)
theorem dX0_ofFraction_32 : decode cX0_ofFraction 32 = .ok (.goto 7, 3) := dk_167 0 7 (dk_at dksX0_ofFraction_1 8 rfl rfl)
theorem dX0_ofFraction_35 : decode cX0_ofFraction 35 = .ok (.iload_n 1, 1) := dk_27 (dk_at dksX0_ofFraction_1 11 rfl rfl)
theorem dX0_ofFraction_36 : decode cX0_ofFraction 36 = .ok (.iload 4, 2) := dk_21 4 (dk_at dksX0_ofFraction_1 12 rfl rfl)
theorem dX0_ofFraction_38 : decode cX0_ofFraction 38 = .ok (.idiv, 1) := dk_108 (dk_at dksX0_ofFraction_1 14 rfl rfl)
theorem dX0_ofFraction_39 : decode cX0_ofFraction 39 = .ok (.ireturn, 1) := dk_172 (dk_at dksX0_ofFraction_1 15 rfl rfl)
abbrev cX0_common : ByteArray := prog_1_method_10_code
def yX0_common : MethodName := ⟨RX0, "common", "(II)I"⟩
def dkwX0_common_0 : List UInt8 := [27, 154, 0, 7, 26, 167, 0, 10, 27, 26, 27, 112, 184, 0, 30, 172]
abbrev dktX0_common_0 : List UInt8 := dkwX0_common_0 ++ []
theorem dksX0_common_0 : cX0_common.data.toList.drop 0 = dktX0_common_0 := by decide +kernel
theorem dX0_common_0 : decode cX0_common 0 = .ok (.iload_n 1, 1) := dk_27 (dk_at dksX0_common_0 0 rfl rfl)
theorem dX0_common_1 : decode cX0_common 1 = .ok (.ifCond .ne 7, 3) := dk_154 0 7 (dk_at dksX0_common_0 1 rfl rfl)
theorem dX0_common_4 : decode cX0_common 4 = .ok (.iload_n 0, 1) := dk_26 (dk_at dksX0_common_0 4 rfl rfl)
theorem dX0_common_5 : decode cX0_common 5 = .ok (.goto 10, 3) := dk_167 0 10 (dk_at dksX0_common_0 5 rfl rfl)
theorem dX0_common_8 : decode cX0_common 8 = .ok (.iload_n 1, 1) := dk_27 (dk_at dksX0_common_0 8 rfl rfl)
theorem dX0_common_9 : decode cX0_common 9 = .ok (.iload_n 0, 1) := dk_26 (dk_at dksX0_common_0 9 rfl rfl)
theorem dX0_common_10 : decode cX0_common 10 = .ok (.iload_n 1, 1) := dk_27 (dk_at dksX0_common_0 10 rfl rfl)
theorem dX0_common_11 : decode cX0_common 11 = .ok (.irem, 1) := dk_112 (dk_at dksX0_common_0 11 rfl rfl)
theorem dX0_common_12 : decode cX0_common 12 = .ok (.invokestatic 30, 3) := dk_184 0 30 (dk_at dksX0_common_0 12 rfl rfl)
theorem dX0_common_15 : decode cX0_common 15 = .ok (.ireturn, 1) := dk_172 (dk_at dksX0_common_0 15 rfl rfl)
abbrev cX0_siege : ByteArray := prog_1_method_65_code
def yX0_siege : MethodName := ⟨RX0, "siege", "(III)I"⟩
def dkwX0_siege_5 : List UInt8 := [181, 1, 92, 42, 42, 180, 0, 43, 180, 1, 92, 4, 100, 182, 0, 109, 172]
abbrev dktX0_siege_5 : List UInt8 := dkwX0_siege_5 ++ []
def dkwX0_siege_4 : List UInt8 := [180, 0, 43, 180, 1, 95, 21, 4, 5, 96, 29, 79, 42, 180, 0, 43, 89, 180, 1, 92, 4, 96]
abbrev dktX0_siege_4 : List UInt8 := dkwX0_siege_4 ++ dktX0_siege_5
def dkwX0_siege_3 : List UInt8 := [180, 0, 43, 180, 1, 95, 21, 4, 27, 79, 42, 180, 0, 43, 180, 1, 95, 21, 4, 4, 96, 28, 79, 42]
abbrev dktX0_siege_3 : List UInt8 := dkwX0_siege_3 ++ dktX0_siege_4
def dkwX0_siege_2 : List UInt8 := [160, 0, 10, 42, 16, 251, 182, 0, 115, 172, 6, 42, 180, 0, 43, 180, 1, 92, 104, 54, 4, 42]
abbrev dktX0_siege_2 : List UInt8 := dkwX0_siege_2 ++ dktX0_siege_3
def dkwX0_siege_1 : List UInt8 := [17, 3, 231, 184, 0, 26, 154, 0, 9, 42, 2, 182, 0, 115, 172, 42, 180, 0, 43, 180, 1, 92, 16, 8]
abbrev dktX0_siege_1 : List UInt8 := dkwX0_siege_1 ++ dktX0_siege_2
def dkwX0_siege_0 : List UInt8 := [27, 3, 16, 99, 184, 0, 26, 153, 0, 24, 28, 3, 16, 10, 184, 0, 26, 153, 0, 14, 29, 3]
abbrev dktX0_siege_0 : List UInt8 := dkwX0_siege_0 ++ dktX0_siege_1
theorem dksX0_siege_0 : cX0_siege.data.toList.drop 0 = dktX0_siege_0 := by decide +kernel
theorem dksX0_siege_1 : cX0_siege.data.toList.drop 22 = dktX0_siege_1 := dk_seg dksX0_siege_0 22 rfl rfl
theorem dksX0_siege_2 : cX0_siege.data.toList.drop 46 = dktX0_siege_2 := dk_seg dksX0_siege_1 24 rfl rfl
theorem dksX0_siege_3 : cX0_siege.data.toList.drop 68 = dktX0_siege_3 := dk_seg dksX0_siege_2 22 rfl rfl
theorem dksX0_siege_4 : cX0_siege.data.toList.drop 92 = dktX0_siege_4 := dk_seg dksX0_siege_3 24 rfl rfl
theorem dksX0_siege_5 : cX0_siege.data.toList.drop 114 = dktX0_siege_5 := dk_seg dksX0_siege_4 22 rfl rfl
theorem dX0_siege_0 : decode cX0_siege 0 = .ok (.iload_n 1, 1) := dk_27 (dk_at dksX0_siege_0 0 rfl rfl)
theorem dX0_siege_1 : decode cX0_siege 1 = .ok (.iconst 0, 1) := dk_3 (dk_at dksX0_siege_0 1 rfl rfl)
theorem dX0_siege_2 : decode cX0_siege 2 = .ok (.bipush 99, 2) := dk_16 99 (dk_at dksX0_siege_0 2 rfl rfl)
theorem dX0_siege_4 : decode cX0_siege 4 = .ok (.invokestatic 26, 3) := dk_184 0 26 (dk_at dksX0_siege_0 4 rfl rfl)
theorem dX0_siege_7 : decode cX0_siege 7 = .ok (.ifCond .eq 24, 3) := dk_153 0 24 (dk_at dksX0_siege_0 7 rfl rfl)
theorem dX0_siege_10 : decode cX0_siege 10 = .ok (.iload_n 2, 1) := dk_28 (dk_at dksX0_siege_0 10 rfl rfl)
theorem dX0_siege_11 : decode cX0_siege 11 = .ok (.iconst 0, 1) := dk_3 (dk_at dksX0_siege_0 11 rfl rfl)
theorem dX0_siege_12 : decode cX0_siege 12 = .ok (.bipush 10, 2) := dk_16 10 (dk_at dksX0_siege_0 12 rfl rfl)
theorem dX0_siege_14 : decode cX0_siege 14 = .ok (.invokestatic 26, 3) := dk_184 0 26 (dk_at dksX0_siege_0 14 rfl rfl)
theorem dX0_siege_17 : decode cX0_siege 17 = .ok (.ifCond .eq 14, 3) := dk_153 0 14 (dk_at dksX0_siege_0 17 rfl rfl)
theorem dX0_siege_20 : decode cX0_siege 20 = .ok (.iload_n 3, 1) := dk_29 (dk_at dksX0_siege_0 20 rfl rfl)
theorem dX0_siege_21 : decode cX0_siege 21 = .ok (.iconst 0, 1) := dk_3 (dk_at dksX0_siege_0 21 rfl rfl)
theorem dX0_siege_22 : decode cX0_siege 22 = .ok (.sipush 999, 3) := dk_17 3 231 (dk_at dksX0_siege_1 0 rfl rfl)
theorem dX0_siege_25 : decode cX0_siege 25 = .ok (.invokestatic 26, 3) := dk_184 0 26 (dk_at dksX0_siege_1 3 rfl rfl)
theorem dX0_siege_28 : decode cX0_siege 28 = .ok (.ifCond .ne 9, 3) := dk_154 0 9 (dk_at dksX0_siege_1 6 rfl rfl)
theorem dX0_siege_31 : decode cX0_siege 31 = .ok (.aload_n 0, 1) := dk_42 (dk_at dksX0_siege_1 9 rfl rfl)
theorem dX0_siege_32 : decode cX0_siege 32 = .ok (.iconst (-1), 1) := dk_2 (dk_at dksX0_siege_1 10 rfl rfl)
theorem dX0_siege_33 : decode cX0_siege 33 = .ok (.invokevirtual 115, 3) := dk_182 0 115 (dk_at dksX0_siege_1 11 rfl rfl)
theorem dX0_siege_36 : decode cX0_siege 36 = .ok (.ireturn, 1) := dk_172 (dk_at dksX0_siege_1 14 rfl rfl)
theorem dX0_siege_37 : decode cX0_siege 37 = .ok (.aload_n 0, 1) := dk_42 (dk_at dksX0_siege_1 15 rfl rfl)
theorem dX0_siege_38 : decode cX0_siege 38 = .ok (.getfield 43, 3) := dk_180 0 43 (dk_at dksX0_siege_1 16 rfl rfl)
theorem dX0_siege_41 : decode cX0_siege 41 = .ok (.getfield 348, 3) := dk_180 1 92 (dk_at dksX0_siege_1 19 rfl rfl)
theorem dX0_siege_44 : decode cX0_siege 44 = .ok (.bipush 8, 2) := dk_16 8 (dk_at dksX0_siege_1 22 rfl rfl)
theorem dX0_siege_46 : decode cX0_siege 46 = .ok (.if_icmp .ne 10, 3) := dk_160 0 10 (dk_at dksX0_siege_2 0 rfl rfl)
theorem dX0_siege_49 : decode cX0_siege 49 = .ok (.aload_n 0, 1) := dk_42 (dk_at dksX0_siege_2 3 rfl rfl)
theorem dX0_siege_50 : decode cX0_siege 50 = .ok (.bipush (-5), 2) := dk_16 251 (dk_at dksX0_siege_2 4 rfl rfl)
theorem dX0_siege_52 : decode cX0_siege 52 = .ok (.invokevirtual 115, 3) := dk_182 0 115 (dk_at dksX0_siege_2 6 rfl rfl)
theorem dX0_siege_55 : decode cX0_siege 55 = .ok (.ireturn, 1) := dk_172 (dk_at dksX0_siege_2 9 rfl rfl)
theorem dX0_siege_56 : decode cX0_siege 56 = .ok (.iconst 3, 1) := dk_6 (dk_at dksX0_siege_2 10 rfl rfl)
theorem dX0_siege_57 : decode cX0_siege 57 = .ok (.aload_n 0, 1) := dk_42 (dk_at dksX0_siege_2 11 rfl rfl)
theorem dX0_siege_58 : decode cX0_siege 58 = .ok (.getfield 43, 3) := dk_180 0 43 (dk_at dksX0_siege_2 12 rfl rfl)
theorem dX0_siege_61 : decode cX0_siege 61 = .ok (.getfield 348, 3) := dk_180 1 92 (dk_at dksX0_siege_2 15 rfl rfl)
theorem dX0_siege_64 : decode cX0_siege 64 = .ok (.imul, 1) := dk_104 (dk_at dksX0_siege_2 18 rfl rfl)
theorem dX0_siege_65 : decode cX0_siege 65 = .ok (.istore 4, 2) := dk_54 4 (dk_at dksX0_siege_2 19 rfl rfl)
theorem dX0_siege_67 : decode cX0_siege 67 = .ok (.aload_n 0, 1) := dk_42 (dk_at dksX0_siege_2 21 rfl rfl)
theorem dX0_siege_68 : decode cX0_siege 68 = .ok (.getfield 43, 3) := dk_180 0 43 (dk_at dksX0_siege_3 0 rfl rfl)
theorem dX0_siege_71 : decode cX0_siege 71 = .ok (.getfield 351, 3) := dk_180 1 95 (dk_at dksX0_siege_3 3 rfl rfl)
theorem dX0_siege_74 : decode cX0_siege 74 = .ok (.iload 4, 2) := dk_21 4 (dk_at dksX0_siege_3 6 rfl rfl)
theorem dX0_siege_76 : decode cX0_siege 76 = .ok (.iload_n 1, 1) := dk_27 (dk_at dksX0_siege_3 8 rfl rfl)
theorem dX0_siege_77 : decode cX0_siege 77 = .ok (.iastore, 1) := dk_79 (dk_at dksX0_siege_3 9 rfl rfl)
theorem dX0_siege_78 : decode cX0_siege 78 = .ok (.aload_n 0, 1) := dk_42 (dk_at dksX0_siege_3 10 rfl rfl)
theorem dX0_siege_79 : decode cX0_siege 79 = .ok (.getfield 43, 3) := dk_180 0 43 (dk_at dksX0_siege_3 11 rfl rfl)
theorem dX0_siege_82 : decode cX0_siege 82 = .ok (.getfield 351, 3) := dk_180 1 95 (dk_at dksX0_siege_3 14 rfl rfl)
theorem dX0_siege_85 : decode cX0_siege 85 = .ok (.iload 4, 2) := dk_21 4 (dk_at dksX0_siege_3 17 rfl rfl)
theorem dX0_siege_87 : decode cX0_siege 87 = .ok (.iconst 1, 1) := dk_4 (dk_at dksX0_siege_3 19 rfl rfl)
theorem dX0_siege_88 : decode cX0_siege 88 = .ok (.iadd, 1) := dk_96 (dk_at dksX0_siege_3 20 rfl rfl)
theorem dX0_siege_89 : decode cX0_siege 89 = .ok (.iload_n 2, 1) := dk_28 (dk_at dksX0_siege_3 21 rfl rfl)
theorem dX0_siege_90 : decode cX0_siege 90 = .ok (.iastore, 1) := dk_79 (dk_at dksX0_siege_3 22 rfl rfl)
theorem dX0_siege_91 : decode cX0_siege 91 = .ok (.aload_n 0, 1) := dk_42 (dk_at dksX0_siege_3 23 rfl rfl)
theorem dX0_siege_92 : decode cX0_siege 92 = .ok (.getfield 43, 3) := dk_180 0 43 (dk_at dksX0_siege_4 0 rfl rfl)
theorem dX0_siege_95 : decode cX0_siege 95 = .ok (.getfield 351, 3) := dk_180 1 95 (dk_at dksX0_siege_4 3 rfl rfl)
theorem dX0_siege_98 : decode cX0_siege 98 = .ok (.iload 4, 2) := dk_21 4 (dk_at dksX0_siege_4 6 rfl rfl)
theorem dX0_siege_100 : decode cX0_siege 100 = .ok (.iconst 2, 1) := dk_5 (dk_at dksX0_siege_4 8 rfl rfl)
theorem dX0_siege_101 : decode cX0_siege 101 = .ok (.iadd, 1) := dk_96 (dk_at dksX0_siege_4 9 rfl rfl)
theorem dX0_siege_102 : decode cX0_siege 102 = .ok (.iload_n 3, 1) := dk_29 (dk_at dksX0_siege_4 10 rfl rfl)
theorem dX0_siege_103 : decode cX0_siege 103 = .ok (.iastore, 1) := dk_79 (dk_at dksX0_siege_4 11 rfl rfl)
theorem dX0_siege_104 : decode cX0_siege 104 = .ok (.aload_n 0, 1) := dk_42 (dk_at dksX0_siege_4 12 rfl rfl)
theorem dX0_siege_105 : decode cX0_siege 105 = .ok (.getfield 43, 3) := dk_180 0 43 (dk_at dksX0_siege_4 13 rfl rfl)
theorem dX0_siege_108 : decode cX0_siege 108 = .ok (.dup, 1) := dk_89 (dk_at dksX0_siege_4 16 rfl rfl)
theorem dX0_siege_109 : decode cX0_siege 109 = .ok (.getfield 348, 3) := dk_180 1 92 (dk_at dksX0_siege_4 17 rfl rfl)
theorem dX0_siege_112 : decode cX0_siege 112 = .ok (.iconst 1, 1) := dk_4 (dk_at dksX0_siege_4 20 rfl rfl)
theorem dX0_siege_113 : decode cX0_siege 113 = .ok (.iadd, 1) := dk_96 (dk_at dksX0_siege_4 21 rfl rfl)
theorem dX0_siege_114 : decode cX0_siege 114 = .ok (.putfield 348, 3) := dk_181 1 92 (dk_at dksX0_siege_5 0 rfl rfl)
theorem dX0_siege_117 : decode cX0_siege 117 = .ok (.aload_n 0, 1) := dk_42 (dk_at dksX0_siege_5 3 rfl rfl)
theorem dX0_siege_118 : decode cX0_siege 118 = .ok (.aload_n 0, 1) := dk_42 (dk_at dksX0_siege_5 4 rfl rfl)
theorem dX0_siege_119 : decode cX0_siege 119 = .ok (.getfield 43, 3) := dk_180 0 43 (dk_at dksX0_siege_5 5 rfl rfl)
theorem dX0_siege_122 : decode cX0_siege 122 = .ok (.getfield 348, 3) := dk_180 1 92 (dk_at dksX0_siege_5 8 rfl rfl)
theorem dX0_siege_125 : decode cX0_siege 125 = .ok (.iconst 1, 1) := dk_4 (dk_at dksX0_siege_5 11 rfl rfl)
theorem dX0_siege_126 : decode cX0_siege 126 = .ok (.isub, 1) := dk_100 (dk_at dksX0_siege_5 12 rfl rfl)
theorem dX0_siege_127 : decode cX0_siege 127 = .ok (.invokevirtual 109, 3) := dk_182 0 109 (dk_at dksX0_siege_5 13 rfl rfl)
theorem dX0_siege_130 : decode cX0_siege 130 = .ok (.ireturn, 1) := dk_172 (dk_at dksX0_siege_5 16 rfl rfl)
abbrev cX0_career : ByteArray := prog_1_method_68_code
def yX0_career : MethodName := ⟨RX0, "career", "(II)I"⟩
def dkwX0_career_9 : List UInt8 := [167, 255, 192]
abbrev dktX0_career_9 : List UInt8 := dkwX0_career_9 ++ []
def dkwX0_career_8 : List UInt8 := [172, 21, 5, 153, 0, 14, 16, 10, 29, 4, 96, 184, 1, 98, 167, 0, 4, 3, 62, 132, 4, 1]
abbrev dktX0_career_8 : List UInt8 := dkwX0_career_8 ++ dktX0_career_9
def dkwX0_career_7 : List UInt8 := [167, 0, 4, 3, 54, 5, 21, 4, 28, 4, 100, 160, 0, 14, 21, 5, 153, 0, 7, 3, 167, 0, 4, 4]
abbrev dktX0_career_7 : List UInt8 := dkwX0_career_7 ++ dktX0_career_8
def dkwX0_career_6 : List UInt8 := [62, 3, 54, 4, 42, 21, 4, 29, 182, 1, 100, 42, 21, 4, 29, 182, 1, 103, 161, 0, 7, 4]
abbrev dktX0_career_6 : List UInt8 := dkwX0_career_6 ++ dktX0_career_7
def dkwX0_career_5 : List UInt8 := [132, 4, 1, 167, 255, 217, 132, 3, 255, 167, 255, 204, 28, 154, 0, 10, 42, 180, 0, 91, 27, 46, 172, 27]
abbrev dktX0_career_5 : List UInt8 := dkwX0_career_5 ++ dktX0_career_6
def dkwX0_career_4 : List UInt8 := [104, 21, 4, 96, 42, 29, 21, 4, 182, 1, 100, 42, 29, 21, 4, 182, 1, 103, 184, 1, 40, 79]
abbrev dktX0_career_4 : List UInt8 := dkwX0_career_4 ++ dktX0_career_5
def dkwX0_career_3 : List UInt8 := [4, 100, 62, 29, 155, 0, 54, 3, 54, 4, 21, 4, 16, 10, 163, 0, 38, 42, 180, 0, 91, 16, 11, 29]
abbrev dktX0_career_3 : List UInt8 := dkwX0_career_3 ++ dktX0_career_4
def dkwX0_career_2 : List UInt8 := [180, 0, 43, 180, 1, 92, 104, 29, 96, 3, 79, 132, 3, 1, 167, 255, 229, 42, 180, 0, 43, 180, 1, 92]
abbrev dktX0_career_2 : List UInt8 := dkwX0_career_2 ++ dktX0_career_3
def dkwX0_career_1 : List UInt8 := [154, 0, 7, 19, 1, 87, 172, 3, 62, 29, 16, 10, 163, 0, 27, 42, 180, 0, 91, 16, 11, 42]
abbrev dktX0_career_1 : List UInt8 := dkwX0_career_1 ++ dktX0_career_2
def dkwX0_career_0 : List UInt8 := [27, 3, 16, 10, 184, 0, 26, 153, 0, 18, 28, 3, 42, 180, 0, 43, 180, 1, 92, 184, 0, 26]
abbrev dktX0_career_0 : List UInt8 := dkwX0_career_0 ++ dktX0_career_1
theorem dksX0_career_0 : cX0_career.data.toList.drop 0 = dktX0_career_0 := by decide +kernel
theorem dksX0_career_1 : cX0_career.data.toList.drop 22 = dktX0_career_1 := dk_seg dksX0_career_0 22 rfl rfl
theorem dksX0_career_2 : cX0_career.data.toList.drop 44 = dktX0_career_2 := dk_seg dksX0_career_1 22 rfl rfl
theorem dksX0_career_3 : cX0_career.data.toList.drop 68 = dktX0_career_3 := dk_seg dksX0_career_2 24 rfl rfl
theorem dksX0_career_4 : cX0_career.data.toList.drop 92 = dktX0_career_4 := dk_seg dksX0_career_3 24 rfl rfl
theorem dksX0_career_5 : cX0_career.data.toList.drop 114 = dktX0_career_5 := dk_seg dksX0_career_4 22 rfl rfl
theorem dksX0_career_6 : cX0_career.data.toList.drop 138 = dktX0_career_6 := dk_seg dksX0_career_5 24 rfl rfl
theorem dksX0_career_7 : cX0_career.data.toList.drop 160 = dktX0_career_7 := dk_seg dksX0_career_6 22 rfl rfl
theorem dksX0_career_8 : cX0_career.data.toList.drop 184 = dktX0_career_8 := dk_seg dksX0_career_7 24 rfl rfl
theorem dksX0_career_9 : cX0_career.data.toList.drop 206 = dktX0_career_9 := dk_seg dksX0_career_8 22 rfl rfl
theorem dX0_career_0 : decode cX0_career 0 = .ok (.iload_n 1, 1) := dk_27 (dk_at dksX0_career_0 0 rfl rfl)
theorem dX0_career_1 : decode cX0_career 1 = .ok (.iconst 0, 1) := dk_3 (dk_at dksX0_career_0 1 rfl rfl)
theorem dX0_career_2 : decode cX0_career 2 = .ok (.bipush 10, 2) := dk_16 10 (dk_at dksX0_career_0 2 rfl rfl)
theorem dX0_career_4 : decode cX0_career 4 = .ok (.invokestatic 26, 3) := dk_184 0 26 (dk_at dksX0_career_0 4 rfl rfl)
theorem dX0_career_7 : decode cX0_career 7 = .ok (.ifCond .eq 18, 3) := dk_153 0 18 (dk_at dksX0_career_0 7 rfl rfl)
theorem dX0_career_10 : decode cX0_career 10 = .ok (.iload_n 2, 1) := dk_28 (dk_at dksX0_career_0 10 rfl rfl)
theorem dX0_career_11 : decode cX0_career 11 = .ok (.iconst 0, 1) := dk_3 (dk_at dksX0_career_0 11 rfl rfl)
theorem dX0_career_12 : decode cX0_career 12 = .ok (.aload_n 0, 1) := dk_42 (dk_at dksX0_career_0 12 rfl rfl)
theorem dX0_career_13 : decode cX0_career 13 = .ok (.getfield 43, 3) := dk_180 0 43 (dk_at dksX0_career_0 13 rfl rfl)
theorem dX0_career_16 : decode cX0_career 16 = .ok (.getfield 348, 3) := dk_180 1 92 (dk_at dksX0_career_0 16 rfl rfl)
theorem dX0_career_19 : decode cX0_career 19 = .ok (.invokestatic 26, 3) := dk_184 0 26 (dk_at dksX0_career_0 19 rfl rfl)
theorem dX0_career_22 : decode cX0_career 22 = .ok (.ifCond .ne 7, 3) := dk_154 0 7 (dk_at dksX0_career_1 0 rfl rfl)
theorem dX0_career_25 : decode cX0_career 25 = .ok (.ldc_w 343, 3) := dk_19 1 87 (dk_at dksX0_career_1 3 rfl rfl)
theorem dX0_career_28 : decode cX0_career 28 = .ok (.ireturn, 1) := dk_172 (dk_at dksX0_career_1 6 rfl rfl)
theorem dX0_career_29 : decode cX0_career 29 = .ok (.iconst 0, 1) := dk_3 (dk_at dksX0_career_1 7 rfl rfl)
theorem dX0_career_30 : decode cX0_career 30 = .ok (.istore_n 3, 1) := dk_62 (dk_at dksX0_career_1 8 rfl rfl)
theorem dX0_career_31 : decode cX0_career 31 = .ok (.iload_n 3, 1) := dk_29 (dk_at dksX0_career_1 9 rfl rfl)
theorem dX0_career_32 : decode cX0_career 32 = .ok (.bipush 10, 2) := dk_16 10 (dk_at dksX0_career_1 10 rfl rfl)
theorem dX0_career_34 : decode cX0_career 34 = .ok (.if_icmp .gt 27, 3) := dk_163 0 27 (dk_at dksX0_career_1 12 rfl rfl)
theorem dX0_career_37 : decode cX0_career 37 = .ok (.aload_n 0, 1) := dk_42 (dk_at dksX0_career_1 15 rfl rfl)
theorem dX0_career_38 : decode cX0_career 38 = .ok (.getfield 91, 3) := dk_180 0 91 (dk_at dksX0_career_1 16 rfl rfl)
theorem dX0_career_41 : decode cX0_career 41 = .ok (.bipush 11, 2) := dk_16 11 (dk_at dksX0_career_1 19 rfl rfl)
theorem dX0_career_43 : decode cX0_career 43 = .ok (.aload_n 0, 1) := dk_42 (dk_at dksX0_career_1 21 rfl rfl)
theorem dX0_career_44 : decode cX0_career 44 = .ok (.getfield 43, 3) := dk_180 0 43 (dk_at dksX0_career_2 0 rfl rfl)
theorem dX0_career_47 : decode cX0_career 47 = .ok (.getfield 348, 3) := dk_180 1 92 (dk_at dksX0_career_2 3 rfl rfl)
theorem dX0_career_50 : decode cX0_career 50 = .ok (.imul, 1) := dk_104 (dk_at dksX0_career_2 6 rfl rfl)
theorem dX0_career_51 : decode cX0_career 51 = .ok (.iload_n 3, 1) := dk_29 (dk_at dksX0_career_2 7 rfl rfl)
theorem dX0_career_52 : decode cX0_career 52 = .ok (.iadd, 1) := dk_96 (dk_at dksX0_career_2 8 rfl rfl)
theorem dX0_career_53 : decode cX0_career 53 = .ok (.iconst 0, 1) := dk_3 (dk_at dksX0_career_2 9 rfl rfl)
theorem dX0_career_54 : decode cX0_career 54 = .ok (.iastore, 1) := dk_79 (dk_at dksX0_career_2 10 rfl rfl)
theorem dX0_career_55 : decode cX0_career 55 = .ok (.iinc 3 1, 3) := dk_132 3 1 (dk_at dksX0_career_2 11 rfl rfl)
theorem dX0_career_58 : decode cX0_career 58 = .ok (.goto (-27), 3) := dk_167 255 229 (dk_at dksX0_career_2 14 rfl rfl)
theorem dX0_career_61 : decode cX0_career 61 = .ok (.aload_n 0, 1) := dk_42 (dk_at dksX0_career_2 17 rfl rfl)
theorem dX0_career_62 : decode cX0_career 62 = .ok (.getfield 43, 3) := dk_180 0 43 (dk_at dksX0_career_2 18 rfl rfl)
theorem dX0_career_65 : decode cX0_career 65 = .ok (.getfield 348, 3) := dk_180 1 92 (dk_at dksX0_career_2 21 rfl rfl)
theorem dX0_career_68 : decode cX0_career 68 = .ok (.iconst 1, 1) := dk_4 (dk_at dksX0_career_3 0 rfl rfl)
theorem dX0_career_69 : decode cX0_career 69 = .ok (.isub, 1) := dk_100 (dk_at dksX0_career_3 1 rfl rfl)
theorem dX0_career_70 : decode cX0_career 70 = .ok (.istore_n 3, 1) := dk_62 (dk_at dksX0_career_3 2 rfl rfl)
theorem dX0_career_71 : decode cX0_career 71 = .ok (.iload_n 3, 1) := dk_29 (dk_at dksX0_career_3 3 rfl rfl)
theorem dX0_career_72 : decode cX0_career 72 = .ok (.ifCond .lt 54, 3) := dk_155 0 54 (dk_at dksX0_career_3 4 rfl rfl)
theorem dX0_career_75 : decode cX0_career 75 = .ok (.iconst 0, 1) := dk_3 (dk_at dksX0_career_3 7 rfl rfl)
theorem dX0_career_76 : decode cX0_career 76 = .ok (.istore 4, 2) := dk_54 4 (dk_at dksX0_career_3 8 rfl rfl)
theorem dX0_career_78 : decode cX0_career 78 = .ok (.iload 4, 2) := dk_21 4 (dk_at dksX0_career_3 10 rfl rfl)
theorem dX0_career_80 : decode cX0_career 80 = .ok (.bipush 10, 2) := dk_16 10 (dk_at dksX0_career_3 12 rfl rfl)
theorem dX0_career_82 : decode cX0_career 82 = .ok (.if_icmp .gt 38, 3) := dk_163 0 38 (dk_at dksX0_career_3 14 rfl rfl)
theorem dX0_career_85 : decode cX0_career 85 = .ok (.aload_n 0, 1) := dk_42 (dk_at dksX0_career_3 17 rfl rfl)
theorem dX0_career_86 : decode cX0_career 86 = .ok (.getfield 91, 3) := dk_180 0 91 (dk_at dksX0_career_3 18 rfl rfl)
theorem dX0_career_89 : decode cX0_career 89 = .ok (.bipush 11, 2) := dk_16 11 (dk_at dksX0_career_3 21 rfl rfl)
theorem dX0_career_91 : decode cX0_career 91 = .ok (.iload_n 3, 1) := dk_29 (dk_at dksX0_career_3 23 rfl rfl)
theorem dX0_career_92 : decode cX0_career 92 = .ok (.imul, 1) := dk_104 (dk_at dksX0_career_4 0 rfl rfl)
theorem dX0_career_93 : decode cX0_career 93 = .ok (.iload 4, 2) := dk_21 4 (dk_at dksX0_career_4 1 rfl rfl)
theorem dX0_career_95 : decode cX0_career 95 = .ok (.iadd, 1) := dk_96 (dk_at dksX0_career_4 3 rfl rfl)
theorem dX0_career_96 : decode cX0_career 96 = .ok (.aload_n 0, 1) := dk_42 (dk_at dksX0_career_4 4 rfl rfl)
theorem dX0_career_97 : decode cX0_career 97 = .ok (.iload_n 3, 1) := dk_29 (dk_at dksX0_career_4 5 rfl rfl)
theorem dX0_career_98 : decode cX0_career 98 = .ok (.iload 4, 2) := dk_21 4 (dk_at dksX0_career_4 6 rfl rfl)
theorem dX0_career_100 : decode cX0_career 100 = .ok (.invokevirtual 356, 3) := dk_182 1 100 (dk_at dksX0_career_4 8 rfl rfl)
theorem dX0_career_103 : decode cX0_career 103 = .ok (.aload_n 0, 1) := dk_42 (dk_at dksX0_career_4 11 rfl rfl)
theorem dX0_career_104 : decode cX0_career 104 = .ok (.iload_n 3, 1) := dk_29 (dk_at dksX0_career_4 12 rfl rfl)
theorem dX0_career_105 : decode cX0_career 105 = .ok (.iload 4, 2) := dk_21 4 (dk_at dksX0_career_4 13 rfl rfl)
theorem dX0_career_107 : decode cX0_career 107 = .ok (.invokevirtual 359, 3) := dk_182 1 103 (dk_at dksX0_career_4 15 rfl rfl)
theorem dX0_career_110 : decode cX0_career 110 = .ok (.invokestatic 296, 3) := dk_184 1 40 (dk_at dksX0_career_4 18 rfl rfl)
theorem dX0_career_113 : decode cX0_career 113 = .ok (.iastore, 1) := dk_79 (dk_at dksX0_career_4 21 rfl rfl)
theorem dX0_career_114 : decode cX0_career 114 = .ok (.iinc 4 1, 3) := dk_132 4 1 (dk_at dksX0_career_5 0 rfl rfl)
theorem dX0_career_117 : decode cX0_career 117 = .ok (.goto (-39), 3) := dk_167 255 217 (dk_at dksX0_career_5 3 rfl rfl)
theorem dX0_career_120 : decode cX0_career 120 = .ok (.iinc 3 (-1), 3) := dk_132 3 255 (dk_at dksX0_career_5 6 rfl rfl)
theorem dX0_career_123 : decode cX0_career 123 = .ok (.goto (-52), 3) := dk_167 255 204 (dk_at dksX0_career_5 9 rfl rfl)
theorem dX0_career_126 : decode cX0_career 126 = .ok (.iload_n 2, 1) := dk_28 (dk_at dksX0_career_5 12 rfl rfl)
theorem dX0_career_127 : decode cX0_career 127 = .ok (.ifCond .ne 10, 3) := dk_154 0 10 (dk_at dksX0_career_5 13 rfl rfl)
theorem dX0_career_130 : decode cX0_career 130 = .ok (.aload_n 0, 1) := dk_42 (dk_at dksX0_career_5 16 rfl rfl)
theorem dX0_career_131 : decode cX0_career 131 = .ok (.getfield 91, 3) := dk_180 0 91 (dk_at dksX0_career_5 17 rfl rfl)
theorem dX0_career_134 : decode cX0_career 134 = .ok (.iload_n 1, 1) := dk_27 (dk_at dksX0_career_5 20 rfl rfl)
theorem dX0_career_135 : decode cX0_career 135 = .ok (.iaload, 1) := dk_46 (dk_at dksX0_career_5 21 rfl rfl)
theorem dX0_career_136 : decode cX0_career 136 = .ok (.ireturn, 1) := dk_172 (dk_at dksX0_career_5 22 rfl rfl)
theorem dX0_career_137 : decode cX0_career 137 = .ok (.iload_n 1, 1) := dk_27 (dk_at dksX0_career_5 23 rfl rfl)
theorem dX0_career_138 : decode cX0_career 138 = .ok (.istore_n 3, 1) := dk_62 (dk_at dksX0_career_6 0 rfl rfl)
theorem dX0_career_139 : decode cX0_career 139 = .ok (.iconst 0, 1) := dk_3 (dk_at dksX0_career_6 1 rfl rfl)
theorem dX0_career_140 : decode cX0_career 140 = .ok (.istore 4, 2) := dk_54 4 (dk_at dksX0_career_6 2 rfl rfl)
theorem dX0_career_142 : decode cX0_career 142 = .ok (.aload_n 0, 1) := dk_42 (dk_at dksX0_career_6 4 rfl rfl)
theorem dX0_career_143 : decode cX0_career 143 = .ok (.iload 4, 2) := dk_21 4 (dk_at dksX0_career_6 5 rfl rfl)
theorem dX0_career_145 : decode cX0_career 145 = .ok (.iload_n 3, 1) := dk_29 (dk_at dksX0_career_6 7 rfl rfl)
theorem dX0_career_146 : decode cX0_career 146 = .ok (.invokevirtual 356, 3) := dk_182 1 100 (dk_at dksX0_career_6 8 rfl rfl)
theorem dX0_career_149 : decode cX0_career 149 = .ok (.aload_n 0, 1) := dk_42 (dk_at dksX0_career_6 11 rfl rfl)
theorem dX0_career_150 : decode cX0_career 150 = .ok (.iload 4, 2) := dk_21 4 (dk_at dksX0_career_6 12 rfl rfl)
theorem dX0_career_152 : decode cX0_career 152 = .ok (.iload_n 3, 1) := dk_29 (dk_at dksX0_career_6 14 rfl rfl)
theorem dX0_career_153 : decode cX0_career 153 = .ok (.invokevirtual 359, 3) := dk_182 1 103 (dk_at dksX0_career_6 15 rfl rfl)
theorem dX0_career_156 : decode cX0_career 156 = .ok (.if_icmp .lt 7, 3) := dk_161 0 7 (dk_at dksX0_career_6 18 rfl rfl)
theorem dX0_career_159 : decode cX0_career 159 = .ok (.iconst 1, 1) := dk_4 (dk_at dksX0_career_6 21 rfl rfl)
theorem dX0_career_160 : decode cX0_career 160 = .ok (.goto 4, 3) := dk_167 0 4 (dk_at dksX0_career_7 0 rfl rfl)
theorem dX0_career_163 : decode cX0_career 163 = .ok (.iconst 0, 1) := dk_3 (dk_at dksX0_career_7 3 rfl rfl)
theorem dX0_career_164 : decode cX0_career 164 = .ok (.istore 5, 2) := dk_54 5 (dk_at dksX0_career_7 4 rfl rfl)
theorem dX0_career_166 : decode cX0_career 166 = .ok (.iload 4, 2) := dk_21 4 (dk_at dksX0_career_7 6 rfl rfl)
theorem dX0_career_168 : decode cX0_career 168 = .ok (.iload_n 2, 1) := dk_28 (dk_at dksX0_career_7 8 rfl rfl)
theorem dX0_career_169 : decode cX0_career 169 = .ok (.iconst 1, 1) := dk_4 (dk_at dksX0_career_7 9 rfl rfl)
theorem dX0_career_170 : decode cX0_career 170 = .ok (.isub, 1) := dk_100 (dk_at dksX0_career_7 10 rfl rfl)
theorem dX0_career_171 : decode cX0_career 171 = .ok (.if_icmp .ne 14, 3) := dk_160 0 14 (dk_at dksX0_career_7 11 rfl rfl)
theorem dX0_career_174 : decode cX0_career 174 = .ok (.iload 5, 2) := dk_21 5 (dk_at dksX0_career_7 14 rfl rfl)
theorem dX0_career_176 : decode cX0_career 176 = .ok (.ifCond .eq 7, 3) := dk_153 0 7 (dk_at dksX0_career_7 16 rfl rfl)
theorem dX0_career_179 : decode cX0_career 179 = .ok (.iconst 0, 1) := dk_3 (dk_at dksX0_career_7 19 rfl rfl)
theorem dX0_career_180 : decode cX0_career 180 = .ok (.goto 4, 3) := dk_167 0 4 (dk_at dksX0_career_7 20 rfl rfl)
theorem dX0_career_183 : decode cX0_career 183 = .ok (.iconst 1, 1) := dk_4 (dk_at dksX0_career_7 23 rfl rfl)
theorem dX0_career_184 : decode cX0_career 184 = .ok (.ireturn, 1) := dk_172 (dk_at dksX0_career_8 0 rfl rfl)
theorem dX0_career_185 : decode cX0_career 185 = .ok (.iload 5, 2) := dk_21 5 (dk_at dksX0_career_8 1 rfl rfl)
theorem dX0_career_187 : decode cX0_career 187 = .ok (.ifCond .eq 14, 3) := dk_153 0 14 (dk_at dksX0_career_8 3 rfl rfl)
theorem dX0_career_190 : decode cX0_career 190 = .ok (.bipush 10, 2) := dk_16 10 (dk_at dksX0_career_8 6 rfl rfl)
theorem dX0_career_192 : decode cX0_career 192 = .ok (.iload_n 3, 1) := dk_29 (dk_at dksX0_career_8 8 rfl rfl)
theorem dX0_career_193 : decode cX0_career 193 = .ok (.iconst 1, 1) := dk_4 (dk_at dksX0_career_8 9 rfl rfl)
theorem dX0_career_194 : decode cX0_career 194 = .ok (.iadd, 1) := dk_96 (dk_at dksX0_career_8 10 rfl rfl)
theorem dX0_career_195 : decode cX0_career 195 = .ok (.invokestatic 354, 3) := dk_184 1 98 (dk_at dksX0_career_8 11 rfl rfl)
theorem dX0_career_198 : decode cX0_career 198 = .ok (.goto 4, 3) := dk_167 0 4 (dk_at dksX0_career_8 14 rfl rfl)
theorem dX0_career_201 : decode cX0_career 201 = .ok (.iconst 0, 1) := dk_3 (dk_at dksX0_career_8 17 rfl rfl)
theorem dX0_career_202 : decode cX0_career 202 = .ok (.istore_n 3, 1) := dk_62 (dk_at dksX0_career_8 18 rfl rfl)
theorem dX0_career_203 : decode cX0_career 203 = .ok (.iinc 4 1, 3) := dk_132 4 1 (dk_at dksX0_career_8 19 rfl rfl)
theorem dX0_career_206 : decode cX0_career 206 = .ok (.goto (-64), 3) := dk_167 255 192 (dk_at dksX0_career_9 0 rfl rfl)
abbrev cX0_careful : ByteArray := prog_1_method_66_code
def yX0_careful : MethodName := ⟨RX0, "careful", "(II)I"⟩
def dkwX0_careful_1 : List UInt8 := [180, 1, 95, 6, 27, 104, 46, 100, 172]
abbrev dktX0_careful_1 : List UInt8 := dkwX0_careful_1 ++ []
def dkwX0_careful_0 : List UInt8 := [42, 180, 0, 91, 16, 11, 27, 4, 96, 104, 16, 10, 28, 4, 96, 184, 1, 98, 96, 46, 42, 180, 0, 43]
abbrev dktX0_careful_0 : List UInt8 := dkwX0_careful_0 ++ dktX0_careful_1
theorem dksX0_careful_0 : cX0_careful.data.toList.drop 0 = dktX0_careful_0 := by decide +kernel
theorem dksX0_careful_1 : cX0_careful.data.toList.drop 24 = dktX0_careful_1 := dk_seg dksX0_careful_0 24 rfl rfl
theorem dX0_careful_0 : decode cX0_careful 0 = .ok (.aload_n 0, 1) := dk_42 (dk_at dksX0_careful_0 0 rfl rfl)
theorem dX0_careful_1 : decode cX0_careful 1 = .ok (.getfield 91, 3) := dk_180 0 91 (dk_at dksX0_careful_0 1 rfl rfl)
theorem dX0_careful_4 : decode cX0_careful 4 = .ok (.bipush 11, 2) := dk_16 11 (dk_at dksX0_careful_0 4 rfl rfl)
theorem dX0_careful_6 : decode cX0_careful 6 = .ok (.iload_n 1, 1) := dk_27 (dk_at dksX0_careful_0 6 rfl rfl)
theorem dX0_careful_7 : decode cX0_careful 7 = .ok (.iconst 1, 1) := dk_4 (dk_at dksX0_careful_0 7 rfl rfl)
theorem dX0_careful_8 : decode cX0_careful 8 = .ok (.iadd, 1) := dk_96 (dk_at dksX0_careful_0 8 rfl rfl)
theorem dX0_careful_9 : decode cX0_careful 9 = .ok (.imul, 1) := dk_104 (dk_at dksX0_careful_0 9 rfl rfl)
theorem dX0_careful_10 : decode cX0_careful 10 = .ok (.bipush 10, 2) := dk_16 10 (dk_at dksX0_careful_0 10 rfl rfl)
theorem dX0_careful_12 : decode cX0_careful 12 = .ok (.iload_n 2, 1) := dk_28 (dk_at dksX0_careful_0 12 rfl rfl)
theorem dX0_careful_13 : decode cX0_careful 13 = .ok (.iconst 1, 1) := dk_4 (dk_at dksX0_careful_0 13 rfl rfl)
theorem dX0_careful_14 : decode cX0_careful 14 = .ok (.iadd, 1) := dk_96 (dk_at dksX0_careful_0 14 rfl rfl)
theorem dX0_careful_15 : decode cX0_careful 15 = .ok (.invokestatic 354, 3) := dk_184 1 98 (dk_at dksX0_careful_0 15 rfl rfl)
theorem dX0_careful_18 : decode cX0_careful 18 = .ok (.iadd, 1) := dk_96 (dk_at dksX0_careful_0 18 rfl rfl)
theorem dX0_careful_19 : decode cX0_careful 19 = .ok (.iaload, 1) := dk_46 (dk_at dksX0_careful_0 19 rfl rfl)
theorem dX0_careful_20 : decode cX0_careful 20 = .ok (.aload_n 0, 1) := dk_42 (dk_at dksX0_careful_0 20 rfl rfl)
theorem dX0_careful_21 : decode cX0_careful 21 = .ok (.getfield 43, 3) := dk_180 0 43 (dk_at dksX0_careful_0 21 rfl rfl)
theorem dX0_careful_24 : decode cX0_careful 24 = .ok (.getfield 351, 3) := dk_180 1 95 (dk_at dksX0_careful_1 0 rfl rfl)
theorem dX0_careful_27 : decode cX0_careful 27 = .ok (.iconst 3, 1) := dk_6 (dk_at dksX0_careful_1 3 rfl rfl)
theorem dX0_careful_28 : decode cX0_careful 28 = .ok (.iload_n 1, 1) := dk_27 (dk_at dksX0_careful_1 4 rfl rfl)
theorem dX0_careful_29 : decode cX0_careful 29 = .ok (.imul, 1) := dk_104 (dk_at dksX0_careful_1 5 rfl rfl)
theorem dX0_careful_30 : decode cX0_careful 30 = .ok (.iaload, 1) := dk_46 (dk_at dksX0_careful_1 6 rfl rfl)
theorem dX0_careful_31 : decode cX0_careful 31 = .ok (.isub, 1) := dk_100 (dk_at dksX0_careful_1 7 rfl rfl)
theorem dX0_careful_32 : decode cX0_careful 32 = .ok (.ireturn, 1) := dk_172 (dk_at dksX0_careful_1 8 rfl rfl)
abbrev cX0_bold : ByteArray := prog_1_method_67_code
def yX0_bold : MethodName := ⟨RX0, "bold", "(II)I"⟩
def dkwX0_bold_2 : List UInt8 := [180, 1, 95, 6, 27, 104, 5, 96, 46, 116, 96, 172]
abbrev dktX0_bold_2 : List UInt8 := dkwX0_bold_2 ++ []
def dkwX0_bold_1 : List UInt8 := [46, 161, 0, 19, 42, 180, 0, 43, 180, 1, 95, 6, 27, 104, 5, 96, 46, 167, 0, 17, 42, 180, 0, 43]
abbrev dktX0_bold_1 : List UInt8 := dkwX0_bold_1 ++ dktX0_bold_2
def dkwX0_bold_0 : List UInt8 := [42, 180, 0, 91, 16, 11, 27, 4, 96, 104, 46, 28, 42, 180, 0, 43, 180, 1, 95, 6, 27, 104, 4, 96]
abbrev dktX0_bold_0 : List UInt8 := dkwX0_bold_0 ++ dktX0_bold_1
theorem dksX0_bold_0 : cX0_bold.data.toList.drop 0 = dktX0_bold_0 := by decide +kernel
theorem dksX0_bold_1 : cX0_bold.data.toList.drop 24 = dktX0_bold_1 := dk_seg dksX0_bold_0 24 rfl rfl
theorem dksX0_bold_2 : cX0_bold.data.toList.drop 48 = dktX0_bold_2 := dk_seg dksX0_bold_1 24 rfl rfl
theorem dX0_bold_0 : decode cX0_bold 0 = .ok (.aload_n 0, 1) := dk_42 (dk_at dksX0_bold_0 0 rfl rfl)
theorem dX0_bold_1 : decode cX0_bold 1 = .ok (.getfield 91, 3) := dk_180 0 91 (dk_at dksX0_bold_0 1 rfl rfl)
theorem dX0_bold_4 : decode cX0_bold 4 = .ok (.bipush 11, 2) := dk_16 11 (dk_at dksX0_bold_0 4 rfl rfl)
theorem dX0_bold_6 : decode cX0_bold 6 = .ok (.iload_n 1, 1) := dk_27 (dk_at dksX0_bold_0 6 rfl rfl)
theorem dX0_bold_7 : decode cX0_bold 7 = .ok (.iconst 1, 1) := dk_4 (dk_at dksX0_bold_0 7 rfl rfl)
theorem dX0_bold_8 : decode cX0_bold 8 = .ok (.iadd, 1) := dk_96 (dk_at dksX0_bold_0 8 rfl rfl)
theorem dX0_bold_9 : decode cX0_bold 9 = .ok (.imul, 1) := dk_104 (dk_at dksX0_bold_0 9 rfl rfl)
theorem dX0_bold_10 : decode cX0_bold 10 = .ok (.iaload, 1) := dk_46 (dk_at dksX0_bold_0 10 rfl rfl)
theorem dX0_bold_11 : decode cX0_bold 11 = .ok (.iload_n 2, 1) := dk_28 (dk_at dksX0_bold_0 11 rfl rfl)
theorem dX0_bold_12 : decode cX0_bold 12 = .ok (.aload_n 0, 1) := dk_42 (dk_at dksX0_bold_0 12 rfl rfl)
theorem dX0_bold_13 : decode cX0_bold 13 = .ok (.getfield 43, 3) := dk_180 0 43 (dk_at dksX0_bold_0 13 rfl rfl)
theorem dX0_bold_16 : decode cX0_bold 16 = .ok (.getfield 351, 3) := dk_180 1 95 (dk_at dksX0_bold_0 16 rfl rfl)
theorem dX0_bold_19 : decode cX0_bold 19 = .ok (.iconst 3, 1) := dk_6 (dk_at dksX0_bold_0 19 rfl rfl)
theorem dX0_bold_20 : decode cX0_bold 20 = .ok (.iload_n 1, 1) := dk_27 (dk_at dksX0_bold_0 20 rfl rfl)
theorem dX0_bold_21 : decode cX0_bold 21 = .ok (.imul, 1) := dk_104 (dk_at dksX0_bold_0 21 rfl rfl)
theorem dX0_bold_22 : decode cX0_bold 22 = .ok (.iconst 1, 1) := dk_4 (dk_at dksX0_bold_0 22 rfl rfl)
theorem dX0_bold_23 : decode cX0_bold 23 = .ok (.iadd, 1) := dk_96 (dk_at dksX0_bold_0 23 rfl rfl)
theorem dX0_bold_24 : decode cX0_bold 24 = .ok (.iaload, 1) := dk_46 (dk_at dksX0_bold_1 0 rfl rfl)
theorem dX0_bold_25 : decode cX0_bold 25 = .ok (.if_icmp .lt 19, 3) := dk_161 0 19 (dk_at dksX0_bold_1 1 rfl rfl)
theorem dX0_bold_28 : decode cX0_bold 28 = .ok (.aload_n 0, 1) := dk_42 (dk_at dksX0_bold_1 4 rfl rfl)
theorem dX0_bold_29 : decode cX0_bold 29 = .ok (.getfield 43, 3) := dk_180 0 43 (dk_at dksX0_bold_1 5 rfl rfl)
theorem dX0_bold_32 : decode cX0_bold 32 = .ok (.getfield 351, 3) := dk_180 1 95 (dk_at dksX0_bold_1 8 rfl rfl)
theorem dX0_bold_35 : decode cX0_bold 35 = .ok (.iconst 3, 1) := dk_6 (dk_at dksX0_bold_1 11 rfl rfl)
theorem dX0_bold_36 : decode cX0_bold 36 = .ok (.iload_n 1, 1) := dk_27 (dk_at dksX0_bold_1 12 rfl rfl)
theorem dX0_bold_37 : decode cX0_bold 37 = .ok (.imul, 1) := dk_104 (dk_at dksX0_bold_1 13 rfl rfl)
theorem dX0_bold_38 : decode cX0_bold 38 = .ok (.iconst 2, 1) := dk_5 (dk_at dksX0_bold_1 14 rfl rfl)
theorem dX0_bold_39 : decode cX0_bold 39 = .ok (.iadd, 1) := dk_96 (dk_at dksX0_bold_1 15 rfl rfl)
theorem dX0_bold_40 : decode cX0_bold 40 = .ok (.iaload, 1) := dk_46 (dk_at dksX0_bold_1 16 rfl rfl)
theorem dX0_bold_41 : decode cX0_bold 41 = .ok (.goto 17, 3) := dk_167 0 17 (dk_at dksX0_bold_1 17 rfl rfl)
theorem dX0_bold_44 : decode cX0_bold 44 = .ok (.aload_n 0, 1) := dk_42 (dk_at dksX0_bold_1 20 rfl rfl)
theorem dX0_bold_45 : decode cX0_bold 45 = .ok (.getfield 43, 3) := dk_180 0 43 (dk_at dksX0_bold_1 21 rfl rfl)
theorem dX0_bold_48 : decode cX0_bold 48 = .ok (.getfield 351, 3) := dk_180 1 95 (dk_at dksX0_bold_2 0 rfl rfl)
theorem dX0_bold_51 : decode cX0_bold 51 = .ok (.iconst 3, 1) := dk_6 (dk_at dksX0_bold_2 3 rfl rfl)
theorem dX0_bold_52 : decode cX0_bold 52 = .ok (.iload_n 1, 1) := dk_27 (dk_at dksX0_bold_2 4 rfl rfl)
theorem dX0_bold_53 : decode cX0_bold 53 = .ok (.imul, 1) := dk_104 (dk_at dksX0_bold_2 5 rfl rfl)
theorem dX0_bold_54 : decode cX0_bold 54 = .ok (.iconst 2, 1) := dk_5 (dk_at dksX0_bold_2 6 rfl rfl)
theorem dX0_bold_55 : decode cX0_bold 55 = .ok (.iadd, 1) := dk_96 (dk_at dksX0_bold_2 7 rfl rfl)
theorem dX0_bold_56 : decode cX0_bold 56 = .ok (.iaload, 1) := dk_46 (dk_at dksX0_bold_2 8 rfl rfl)
theorem dX0_bold_57 : decode cX0_bold 57 = .ok (.ineg, 1) := dk_116 (dk_at dksX0_bold_2 9 rfl rfl)
theorem dX0_bold_58 : decode cX0_bold 58 = .ok (.iadd, 1) := dk_96 (dk_at dksX0_bold_2 10 rfl rfl)
theorem dX0_bold_59 : decode cX0_bold 59 = .ok (.ireturn, 1) := dk_172 (dk_at dksX0_bold_2 11 rfl rfl)
abbrev cX0_fire : ByteArray := prog_1_method_69_code
def yX0_fire : MethodName := ⟨RX0, "fire", "(I)I"⟩
def dkwX0_fire_3 : List UInt8 := [180, 1, 106, 4, 100, 182, 0, 109, 172]
abbrev dktX0_fire_3 : List UInt8 := dkwX0_fire_3 ++ []
def dkwX0_fire_2 : List UInt8 := [180, 1, 106, 27, 79, 42, 180, 0, 43, 89, 180, 1, 106, 4, 96, 181, 1, 106, 42, 42, 180, 0, 43]
abbrev dktX0_fire_2 : List UInt8 := dkwX0_fire_2 ++ dktX0_fire_3
def dkwX0_fire_1 : List UInt8 := [16, 10, 160, 0, 10, 42, 16, 251, 182, 0, 115, 172, 42, 180, 0, 43, 180, 1, 109, 42, 180, 0, 43]
abbrev dktX0_fire_1 : List UInt8 := dkwX0_fire_1 ++ dktX0_fire_2
def dkwX0_fire_0 : List UInt8 := [27, 3, 16, 63, 184, 0, 26, 154, 0, 9, 42, 2, 182, 0, 115, 172, 42, 180, 0, 43, 180, 1, 106]
abbrev dktX0_fire_0 : List UInt8 := dkwX0_fire_0 ++ dktX0_fire_1
theorem dksX0_fire_0 : cX0_fire.data.toList.drop 0 = dktX0_fire_0 := by decide +kernel
theorem dksX0_fire_1 : cX0_fire.data.toList.drop 23 = dktX0_fire_1 := dk_seg dksX0_fire_0 23 rfl rfl
theorem dksX0_fire_2 : cX0_fire.data.toList.drop 46 = dktX0_fire_2 := dk_seg dksX0_fire_1 23 rfl rfl
theorem dksX0_fire_3 : cX0_fire.data.toList.drop 69 = dktX0_fire_3 := dk_seg dksX0_fire_2 23 rfl rfl
theorem dX0_fire_0 : decode cX0_fire 0 = .ok (.iload_n 1, 1) := dk_27 (dk_at dksX0_fire_0 0 rfl rfl)
theorem dX0_fire_1 : decode cX0_fire 1 = .ok (.iconst 0, 1) := dk_3 (dk_at dksX0_fire_0 1 rfl rfl)
theorem dX0_fire_2 : decode cX0_fire 2 = .ok (.bipush 63, 2) := dk_16 63 (dk_at dksX0_fire_0 2 rfl rfl)
theorem dX0_fire_4 : decode cX0_fire 4 = .ok (.invokestatic 26, 3) := dk_184 0 26 (dk_at dksX0_fire_0 4 rfl rfl)
theorem dX0_fire_7 : decode cX0_fire 7 = .ok (.ifCond .ne 9, 3) := dk_154 0 9 (dk_at dksX0_fire_0 7 rfl rfl)
theorem dX0_fire_10 : decode cX0_fire 10 = .ok (.aload_n 0, 1) := dk_42 (dk_at dksX0_fire_0 10 rfl rfl)
theorem dX0_fire_11 : decode cX0_fire 11 = .ok (.iconst (-1), 1) := dk_2 (dk_at dksX0_fire_0 11 rfl rfl)
theorem dX0_fire_12 : decode cX0_fire 12 = .ok (.invokevirtual 115, 3) := dk_182 0 115 (dk_at dksX0_fire_0 12 rfl rfl)
theorem dX0_fire_15 : decode cX0_fire 15 = .ok (.ireturn, 1) := dk_172 (dk_at dksX0_fire_0 15 rfl rfl)
theorem dX0_fire_16 : decode cX0_fire 16 = .ok (.aload_n 0, 1) := dk_42 (dk_at dksX0_fire_0 16 rfl rfl)
theorem dX0_fire_17 : decode cX0_fire 17 = .ok (.getfield 43, 3) := dk_180 0 43 (dk_at dksX0_fire_0 17 rfl rfl)
theorem dX0_fire_20 : decode cX0_fire 20 = .ok (.getfield 362, 3) := dk_180 1 106 (dk_at dksX0_fire_0 20 rfl rfl)
theorem dX0_fire_23 : decode cX0_fire 23 = .ok (.bipush 10, 2) := dk_16 10 (dk_at dksX0_fire_1 0 rfl rfl)
theorem dX0_fire_25 : decode cX0_fire 25 = .ok (.if_icmp .ne 10, 3) := dk_160 0 10 (dk_at dksX0_fire_1 2 rfl rfl)
theorem dX0_fire_28 : decode cX0_fire 28 = .ok (.aload_n 0, 1) := dk_42 (dk_at dksX0_fire_1 5 rfl rfl)
theorem dX0_fire_29 : decode cX0_fire 29 = .ok (.bipush (-5), 2) := dk_16 251 (dk_at dksX0_fire_1 6 rfl rfl)
theorem dX0_fire_31 : decode cX0_fire 31 = .ok (.invokevirtual 115, 3) := dk_182 0 115 (dk_at dksX0_fire_1 8 rfl rfl)
theorem dX0_fire_34 : decode cX0_fire 34 = .ok (.ireturn, 1) := dk_172 (dk_at dksX0_fire_1 11 rfl rfl)
theorem dX0_fire_35 : decode cX0_fire 35 = .ok (.aload_n 0, 1) := dk_42 (dk_at dksX0_fire_1 12 rfl rfl)
theorem dX0_fire_36 : decode cX0_fire 36 = .ok (.getfield 43, 3) := dk_180 0 43 (dk_at dksX0_fire_1 13 rfl rfl)
theorem dX0_fire_39 : decode cX0_fire 39 = .ok (.getfield 365, 3) := dk_180 1 109 (dk_at dksX0_fire_1 16 rfl rfl)
theorem dX0_fire_42 : decode cX0_fire 42 = .ok (.aload_n 0, 1) := dk_42 (dk_at dksX0_fire_1 19 rfl rfl)
theorem dX0_fire_43 : decode cX0_fire 43 = .ok (.getfield 43, 3) := dk_180 0 43 (dk_at dksX0_fire_1 20 rfl rfl)
theorem dX0_fire_46 : decode cX0_fire 46 = .ok (.getfield 362, 3) := dk_180 1 106 (dk_at dksX0_fire_2 0 rfl rfl)
theorem dX0_fire_49 : decode cX0_fire 49 = .ok (.iload_n 1, 1) := dk_27 (dk_at dksX0_fire_2 3 rfl rfl)
theorem dX0_fire_50 : decode cX0_fire 50 = .ok (.iastore, 1) := dk_79 (dk_at dksX0_fire_2 4 rfl rfl)
theorem dX0_fire_51 : decode cX0_fire 51 = .ok (.aload_n 0, 1) := dk_42 (dk_at dksX0_fire_2 5 rfl rfl)
theorem dX0_fire_52 : decode cX0_fire 52 = .ok (.getfield 43, 3) := dk_180 0 43 (dk_at dksX0_fire_2 6 rfl rfl)
theorem dX0_fire_55 : decode cX0_fire 55 = .ok (.dup, 1) := dk_89 (dk_at dksX0_fire_2 9 rfl rfl)
theorem dX0_fire_56 : decode cX0_fire 56 = .ok (.getfield 362, 3) := dk_180 1 106 (dk_at dksX0_fire_2 10 rfl rfl)
theorem dX0_fire_59 : decode cX0_fire 59 = .ok (.iconst 1, 1) := dk_4 (dk_at dksX0_fire_2 13 rfl rfl)
theorem dX0_fire_60 : decode cX0_fire 60 = .ok (.iadd, 1) := dk_96 (dk_at dksX0_fire_2 14 rfl rfl)
theorem dX0_fire_61 : decode cX0_fire 61 = .ok (.putfield 362, 3) := dk_181 1 106 (dk_at dksX0_fire_2 15 rfl rfl)
theorem dX0_fire_64 : decode cX0_fire 64 = .ok (.aload_n 0, 1) := dk_42 (dk_at dksX0_fire_2 18 rfl rfl)
theorem dX0_fire_65 : decode cX0_fire 65 = .ok (.aload_n 0, 1) := dk_42 (dk_at dksX0_fire_2 19 rfl rfl)
theorem dX0_fire_66 : decode cX0_fire 66 = .ok (.getfield 43, 3) := dk_180 0 43 (dk_at dksX0_fire_2 20 rfl rfl)
theorem dX0_fire_69 : decode cX0_fire 69 = .ok (.getfield 362, 3) := dk_180 1 106 (dk_at dksX0_fire_3 0 rfl rfl)
theorem dX0_fire_72 : decode cX0_fire 72 = .ok (.iconst 1, 1) := dk_4 (dk_at dksX0_fire_3 3 rfl rfl)
theorem dX0_fire_73 : decode cX0_fire 73 = .ok (.isub, 1) := dk_100 (dk_at dksX0_fire_3 4 rfl rfl)
theorem dX0_fire_74 : decode cX0_fire 74 = .ok (.invokevirtual 109, 3) := dk_182 0 109 (dk_at dksX0_fire_3 5 rfl rfl)
theorem dX0_fire_77 : decode cX0_fire 77 = .ok (.ireturn, 1) := dk_172 (dk_at dksX0_fire_3 8 rfl rfl)
abbrev cX0_needs : ByteArray := prog_1_method_70_code
def yX0_needs : MethodName := ⟨RX0, "needs", "(II)I"⟩
def dkwX0_needs_2 : List UInt8 := [172]
abbrev dktX0_needs_2 : List UInt8 := dkwX0_needs_2 ++ []
def dkwX0_needs_1 : List UInt8 := [180, 0, 43, 180, 1, 115, 27, 46, 62, 42, 180, 0, 43, 180, 1, 115, 27, 28, 79, 42, 29, 182, 0, 109]
abbrev dktX0_needs_1 : List UInt8 := dkwX0_needs_1 ++ dktX0_needs_2
def dkwX0_needs_0 : List UInt8 := [27, 184, 1, 112, 153, 0, 13, 28, 3, 16, 9, 184, 0, 26, 154, 0, 9, 42, 2, 182, 0, 115, 172, 42]
abbrev dktX0_needs_0 : List UInt8 := dkwX0_needs_0 ++ dktX0_needs_1
theorem dksX0_needs_0 : cX0_needs.data.toList.drop 0 = dktX0_needs_0 := by decide +kernel
theorem dksX0_needs_1 : cX0_needs.data.toList.drop 24 = dktX0_needs_1 := dk_seg dksX0_needs_0 24 rfl rfl
theorem dksX0_needs_2 : cX0_needs.data.toList.drop 48 = dktX0_needs_2 := dk_seg dksX0_needs_1 24 rfl rfl
theorem dX0_needs_0 : decode cX0_needs 0 = .ok (.iload_n 1, 1) := dk_27 (dk_at dksX0_needs_0 0 rfl rfl)
theorem dX0_needs_1 : decode cX0_needs 1 = .ok (.invokestatic 368, 3) := dk_184 1 112 (dk_at dksX0_needs_0 1 rfl rfl)
theorem dX0_needs_4 : decode cX0_needs 4 = .ok (.ifCond .eq 13, 3) := dk_153 0 13 (dk_at dksX0_needs_0 4 rfl rfl)
theorem dX0_needs_7 : decode cX0_needs 7 = .ok (.iload_n 2, 1) := dk_28 (dk_at dksX0_needs_0 7 rfl rfl)
theorem dX0_needs_8 : decode cX0_needs 8 = .ok (.iconst 0, 1) := dk_3 (dk_at dksX0_needs_0 8 rfl rfl)
theorem dX0_needs_9 : decode cX0_needs 9 = .ok (.bipush 9, 2) := dk_16 9 (dk_at dksX0_needs_0 9 rfl rfl)
theorem dX0_needs_11 : decode cX0_needs 11 = .ok (.invokestatic 26, 3) := dk_184 0 26 (dk_at dksX0_needs_0 11 rfl rfl)
theorem dX0_needs_14 : decode cX0_needs 14 = .ok (.ifCond .ne 9, 3) := dk_154 0 9 (dk_at dksX0_needs_0 14 rfl rfl)
theorem dX0_needs_17 : decode cX0_needs 17 = .ok (.aload_n 0, 1) := dk_42 (dk_at dksX0_needs_0 17 rfl rfl)
theorem dX0_needs_18 : decode cX0_needs 18 = .ok (.iconst (-1), 1) := dk_2 (dk_at dksX0_needs_0 18 rfl rfl)
theorem dX0_needs_19 : decode cX0_needs 19 = .ok (.invokevirtual 115, 3) := dk_182 0 115 (dk_at dksX0_needs_0 19 rfl rfl)
theorem dX0_needs_22 : decode cX0_needs 22 = .ok (.ireturn, 1) := dk_172 (dk_at dksX0_needs_0 22 rfl rfl)
theorem dX0_needs_23 : decode cX0_needs 23 = .ok (.aload_n 0, 1) := dk_42 (dk_at dksX0_needs_0 23 rfl rfl)
theorem dX0_needs_24 : decode cX0_needs 24 = .ok (.getfield 43, 3) := dk_180 0 43 (dk_at dksX0_needs_1 0 rfl rfl)
theorem dX0_needs_27 : decode cX0_needs 27 = .ok (.getfield 371, 3) := dk_180 1 115 (dk_at dksX0_needs_1 3 rfl rfl)
theorem dX0_needs_30 : decode cX0_needs 30 = .ok (.iload_n 1, 1) := dk_27 (dk_at dksX0_needs_1 6 rfl rfl)
theorem dX0_needs_31 : decode cX0_needs 31 = .ok (.iaload, 1) := dk_46 (dk_at dksX0_needs_1 7 rfl rfl)
theorem dX0_needs_32 : decode cX0_needs 32 = .ok (.istore_n 3, 1) := dk_62 (dk_at dksX0_needs_1 8 rfl rfl)
theorem dX0_needs_33 : decode cX0_needs 33 = .ok (.aload_n 0, 1) := dk_42 (dk_at dksX0_needs_1 9 rfl rfl)
theorem dX0_needs_34 : decode cX0_needs 34 = .ok (.getfield 43, 3) := dk_180 0 43 (dk_at dksX0_needs_1 10 rfl rfl)
theorem dX0_needs_37 : decode cX0_needs 37 = .ok (.getfield 371, 3) := dk_180 1 115 (dk_at dksX0_needs_1 13 rfl rfl)
theorem dX0_needs_40 : decode cX0_needs 40 = .ok (.iload_n 1, 1) := dk_27 (dk_at dksX0_needs_1 16 rfl rfl)
theorem dX0_needs_41 : decode cX0_needs 41 = .ok (.iload_n 2, 1) := dk_28 (dk_at dksX0_needs_1 17 rfl rfl)
theorem dX0_needs_42 : decode cX0_needs 42 = .ok (.iastore, 1) := dk_79 (dk_at dksX0_needs_1 18 rfl rfl)
theorem dX0_needs_43 : decode cX0_needs 43 = .ok (.aload_n 0, 1) := dk_42 (dk_at dksX0_needs_1 19 rfl rfl)
theorem dX0_needs_44 : decode cX0_needs 44 = .ok (.iload_n 3, 1) := dk_29 (dk_at dksX0_needs_1 20 rfl rfl)
theorem dX0_needs_45 : decode cX0_needs 45 = .ok (.invokevirtual 109, 3) := dk_182 0 109 (dk_at dksX0_needs_1 21 rfl rfl)
theorem dX0_needs_48 : decode cX0_needs 48 = .ok (.ireturn, 1) := dk_172 (dk_at dksX0_needs_2 0 rfl rfl)
abbrev cX0_isHill : ByteArray := prog_1_method_8_code
def yX0_isHill : MethodName := ⟨RX0, "isHill", "(I)Z"⟩
def dkwX0_isHill_0 : List UInt8 := [26, 3, 8, 184, 0, 26, 172]
abbrev dktX0_isHill_0 : List UInt8 := dkwX0_isHill_0 ++ []
theorem dksX0_isHill_0 : cX0_isHill.data.toList.drop 0 = dktX0_isHill_0 := by decide +kernel
theorem dX0_isHill_0 : decode cX0_isHill 0 = .ok (.iload_n 0, 1) := dk_26 (dk_at dksX0_isHill_0 0 rfl rfl)
theorem dX0_isHill_1 : decode cX0_isHill 1 = .ok (.iconst 0, 1) := dk_3 (dk_at dksX0_isHill_0 1 rfl rfl)
theorem dX0_isHill_2 : decode cX0_isHill 2 = .ok (.iconst 5, 1) := dk_8 (dk_at dksX0_isHill_0 2 rfl rfl)
theorem dX0_isHill_3 : decode cX0_isHill 3 = .ok (.invokestatic 26, 3) := dk_184 0 26 (dk_at dksX0_isHill_0 3 rfl rfl)
theorem dX0_isHill_6 : decode cX0_isHill 6 = .ok (.ireturn, 1) := dk_172 (dk_at dksX0_isHill_0 6 rfl rfl)
abbrev cX0_enough : ByteArray := prog_1_method_72_code
def yX0_enough : MethodName := ⟨RX0, "enough", "(I)I"⟩
def dkwX0_enough_5 : List UInt8 := [160, 0, 7, 28, 167, 0, 7, 28, 184, 1, 118, 172]
abbrev dktX0_enough_5 : List UInt8 := dkwX0_enough_5 ++ []
def dkwX0_enough_4 : List UInt8 := [167, 255, 214, 21, 4, 153, 0, 5, 29, 61, 132, 3, 1, 167, 255, 163, 28, 2, 159, 0, 8, 27, 4]
abbrev dktX0_enough_4 : List UInt8 := dkwX0_enough_4 ++ dktX0_enough_5
def dkwX0_enough_3 : List UInt8 := [42, 180, 0, 43, 180, 1, 115, 21, 5, 46, 161, 0, 7, 4, 167, 0, 4, 3, 54, 4, 132, 5, 1]
abbrev dktX0_enough_3 : List UInt8 := dkwX0_enough_3 ++ dktX0_enough_4
def dkwX0_enough_2 : List UInt8 := [54, 4, 3, 54, 5, 21, 5, 16, 6, 162, 0, 41, 21, 4, 153, 0, 36, 42, 21, 5, 29, 182, 1, 121]
abbrev dktX0_enough_2 : List UInt8 := dkwX0_enough_2 ++ dktX0_enough_3
def dkwX0_enough_1 : List UInt8 := [120, 162, 0, 86, 28, 2, 159, 0, 17, 29, 184, 1, 118, 28, 184, 1, 118, 161, 0, 6, 167, 0, 61, 4]
abbrev dktX0_enough_1 : List UInt8 := dkwX0_enough_1 ++ dktX0_enough_2
def dkwX0_enough_0 : List UInt8 := [27, 3, 4, 184, 0, 26, 154, 0, 5, 2, 172, 2, 61, 3, 62, 29, 4, 42, 180, 0, 43, 180, 1, 106]
abbrev dktX0_enough_0 : List UInt8 := dkwX0_enough_0 ++ dktX0_enough_1
theorem dksX0_enough_0 : cX0_enough.data.toList.drop 0 = dktX0_enough_0 := by decide +kernel
theorem dksX0_enough_1 : cX0_enough.data.toList.drop 24 = dktX0_enough_1 := dk_seg dksX0_enough_0 24 rfl rfl
theorem dksX0_enough_2 : cX0_enough.data.toList.drop 48 = dktX0_enough_2 := dk_seg dksX0_enough_1 24 rfl rfl
theorem dksX0_enough_3 : cX0_enough.data.toList.drop 72 = dktX0_enough_3 := dk_seg dksX0_enough_2 24 rfl rfl
theorem dksX0_enough_4 : cX0_enough.data.toList.drop 95 = dktX0_enough_4 := dk_seg dksX0_enough_3 23 rfl rfl
theorem dksX0_enough_5 : cX0_enough.data.toList.drop 118 = dktX0_enough_5 := dk_seg dksX0_enough_4 23 rfl rfl
theorem dX0_enough_0 : decode cX0_enough 0 = .ok (.iload_n 1, 1) := dk_27 (dk_at dksX0_enough_0 0 rfl rfl)
theorem dX0_enough_1 : decode cX0_enough 1 = .ok (.iconst 0, 1) := dk_3 (dk_at dksX0_enough_0 1 rfl rfl)
theorem dX0_enough_2 : decode cX0_enough 2 = .ok (.iconst 1, 1) := dk_4 (dk_at dksX0_enough_0 2 rfl rfl)
theorem dX0_enough_3 : decode cX0_enough 3 = .ok (.invokestatic 26, 3) := dk_184 0 26 (dk_at dksX0_enough_0 3 rfl rfl)
theorem dX0_enough_6 : decode cX0_enough 6 = .ok (.ifCond .ne 5, 3) := dk_154 0 5 (dk_at dksX0_enough_0 6 rfl rfl)
theorem dX0_enough_9 : decode cX0_enough 9 = .ok (.iconst (-1), 1) := dk_2 (dk_at dksX0_enough_0 9 rfl rfl)
theorem dX0_enough_10 : decode cX0_enough 10 = .ok (.ireturn, 1) := dk_172 (dk_at dksX0_enough_0 10 rfl rfl)
theorem dX0_enough_11 : decode cX0_enough 11 = .ok (.iconst (-1), 1) := dk_2 (dk_at dksX0_enough_0 11 rfl rfl)
theorem dX0_enough_12 : decode cX0_enough 12 = .ok (.istore_n 2, 1) := dk_61 (dk_at dksX0_enough_0 12 rfl rfl)
theorem dX0_enough_13 : decode cX0_enough 13 = .ok (.iconst 0, 1) := dk_3 (dk_at dksX0_enough_0 13 rfl rfl)
theorem dX0_enough_14 : decode cX0_enough 14 = .ok (.istore_n 3, 1) := dk_62 (dk_at dksX0_enough_0 14 rfl rfl)
theorem dX0_enough_15 : decode cX0_enough 15 = .ok (.iload_n 3, 1) := dk_29 (dk_at dksX0_enough_0 15 rfl rfl)
theorem dX0_enough_16 : decode cX0_enough 16 = .ok (.iconst 1, 1) := dk_4 (dk_at dksX0_enough_0 16 rfl rfl)
theorem dX0_enough_17 : decode cX0_enough 17 = .ok (.aload_n 0, 1) := dk_42 (dk_at dksX0_enough_0 17 rfl rfl)
theorem dX0_enough_18 : decode cX0_enough 18 = .ok (.getfield 43, 3) := dk_180 0 43 (dk_at dksX0_enough_0 18 rfl rfl)
theorem dX0_enough_21 : decode cX0_enough 21 = .ok (.getfield 362, 3) := dk_180 1 106 (dk_at dksX0_enough_0 21 rfl rfl)
theorem dX0_enough_24 : decode cX0_enough 24 = .ok (.ishl, 1) := dk_120 (dk_at dksX0_enough_1 0 rfl rfl)
theorem dX0_enough_25 : decode cX0_enough 25 = .ok (.if_icmp .ge 86, 3) := dk_162 0 86 (dk_at dksX0_enough_1 1 rfl rfl)
theorem dX0_enough_28 : decode cX0_enough 28 = .ok (.iload_n 2, 1) := dk_28 (dk_at dksX0_enough_1 4 rfl rfl)
theorem dX0_enough_29 : decode cX0_enough 29 = .ok (.iconst (-1), 1) := dk_2 (dk_at dksX0_enough_1 5 rfl rfl)
theorem dX0_enough_30 : decode cX0_enough 30 = .ok (.if_icmp .eq 17, 3) := dk_159 0 17 (dk_at dksX0_enough_1 6 rfl rfl)
theorem dX0_enough_33 : decode cX0_enough 33 = .ok (.iload_n 3, 1) := dk_29 (dk_at dksX0_enough_1 9 rfl rfl)
theorem dX0_enough_34 : decode cX0_enough 34 = .ok (.invokestatic 374, 3) := dk_184 1 118 (dk_at dksX0_enough_1 10 rfl rfl)
theorem dX0_enough_37 : decode cX0_enough 37 = .ok (.iload_n 2, 1) := dk_28 (dk_at dksX0_enough_1 13 rfl rfl)
theorem dX0_enough_38 : decode cX0_enough 38 = .ok (.invokestatic 374, 3) := dk_184 1 118 (dk_at dksX0_enough_1 14 rfl rfl)
theorem dX0_enough_41 : decode cX0_enough 41 = .ok (.if_icmp .lt 6, 3) := dk_161 0 6 (dk_at dksX0_enough_1 17 rfl rfl)
theorem dX0_enough_44 : decode cX0_enough 44 = .ok (.goto 61, 3) := dk_167 0 61 (dk_at dksX0_enough_1 20 rfl rfl)
theorem dX0_enough_47 : decode cX0_enough 47 = .ok (.iconst 1, 1) := dk_4 (dk_at dksX0_enough_1 23 rfl rfl)
theorem dX0_enough_48 : decode cX0_enough 48 = .ok (.istore 4, 2) := dk_54 4 (dk_at dksX0_enough_2 0 rfl rfl)
theorem dX0_enough_50 : decode cX0_enough 50 = .ok (.iconst 0, 1) := dk_3 (dk_at dksX0_enough_2 2 rfl rfl)
theorem dX0_enough_51 : decode cX0_enough 51 = .ok (.istore 5, 2) := dk_54 5 (dk_at dksX0_enough_2 3 rfl rfl)
theorem dX0_enough_53 : decode cX0_enough 53 = .ok (.iload 5, 2) := dk_21 5 (dk_at dksX0_enough_2 5 rfl rfl)
theorem dX0_enough_55 : decode cX0_enough 55 = .ok (.bipush 6, 2) := dk_16 6 (dk_at dksX0_enough_2 7 rfl rfl)
theorem dX0_enough_57 : decode cX0_enough 57 = .ok (.if_icmp .ge 41, 3) := dk_162 0 41 (dk_at dksX0_enough_2 9 rfl rfl)
theorem dX0_enough_60 : decode cX0_enough 60 = .ok (.iload 4, 2) := dk_21 4 (dk_at dksX0_enough_2 12 rfl rfl)
theorem dX0_enough_62 : decode cX0_enough 62 = .ok (.ifCond .eq 36, 3) := dk_153 0 36 (dk_at dksX0_enough_2 14 rfl rfl)
theorem dX0_enough_65 : decode cX0_enough 65 = .ok (.aload_n 0, 1) := dk_42 (dk_at dksX0_enough_2 17 rfl rfl)
theorem dX0_enough_66 : decode cX0_enough 66 = .ok (.iload 5, 2) := dk_21 5 (dk_at dksX0_enough_2 18 rfl rfl)
theorem dX0_enough_68 : decode cX0_enough 68 = .ok (.iload_n 3, 1) := dk_29 (dk_at dksX0_enough_2 20 rfl rfl)
theorem dX0_enough_69 : decode cX0_enough 69 = .ok (.invokevirtual 377, 3) := dk_182 1 121 (dk_at dksX0_enough_2 21 rfl rfl)
theorem dX0_enough_72 : decode cX0_enough 72 = .ok (.aload_n 0, 1) := dk_42 (dk_at dksX0_enough_3 0 rfl rfl)
theorem dX0_enough_73 : decode cX0_enough 73 = .ok (.getfield 43, 3) := dk_180 0 43 (dk_at dksX0_enough_3 1 rfl rfl)
theorem dX0_enough_76 : decode cX0_enough 76 = .ok (.getfield 371, 3) := dk_180 1 115 (dk_at dksX0_enough_3 4 rfl rfl)
theorem dX0_enough_79 : decode cX0_enough 79 = .ok (.iload 5, 2) := dk_21 5 (dk_at dksX0_enough_3 7 rfl rfl)
theorem dX0_enough_81 : decode cX0_enough 81 = .ok (.iaload, 1) := dk_46 (dk_at dksX0_enough_3 9 rfl rfl)
theorem dX0_enough_82 : decode cX0_enough 82 = .ok (.if_icmp .lt 7, 3) := dk_161 0 7 (dk_at dksX0_enough_3 10 rfl rfl)
theorem dX0_enough_85 : decode cX0_enough 85 = .ok (.iconst 1, 1) := dk_4 (dk_at dksX0_enough_3 13 rfl rfl)
theorem dX0_enough_86 : decode cX0_enough 86 = .ok (.goto 4, 3) := dk_167 0 4 (dk_at dksX0_enough_3 14 rfl rfl)
theorem dX0_enough_89 : decode cX0_enough 89 = .ok (.iconst 0, 1) := dk_3 (dk_at dksX0_enough_3 17 rfl rfl)
theorem dX0_enough_90 : decode cX0_enough 90 = .ok (.istore 4, 2) := dk_54 4 (dk_at dksX0_enough_3 18 rfl rfl)
theorem dX0_enough_92 : decode cX0_enough 92 = .ok (.iinc 5 1, 3) := dk_132 5 1 (dk_at dksX0_enough_3 20 rfl rfl)
theorem dX0_enough_95 : decode cX0_enough 95 = .ok (.goto (-42), 3) := dk_167 255 214 (dk_at dksX0_enough_4 0 rfl rfl)
theorem dX0_enough_98 : decode cX0_enough 98 = .ok (.iload 4, 2) := dk_21 4 (dk_at dksX0_enough_4 3 rfl rfl)
theorem dX0_enough_100 : decode cX0_enough 100 = .ok (.ifCond .eq 5, 3) := dk_153 0 5 (dk_at dksX0_enough_4 5 rfl rfl)
theorem dX0_enough_103 : decode cX0_enough 103 = .ok (.iload_n 3, 1) := dk_29 (dk_at dksX0_enough_4 8 rfl rfl)
theorem dX0_enough_104 : decode cX0_enough 104 = .ok (.istore_n 2, 1) := dk_61 (dk_at dksX0_enough_4 9 rfl rfl)
theorem dX0_enough_105 : decode cX0_enough 105 = .ok (.iinc 3 1, 3) := dk_132 3 1 (dk_at dksX0_enough_4 10 rfl rfl)
theorem dX0_enough_108 : decode cX0_enough 108 = .ok (.goto (-93), 3) := dk_167 255 163 (dk_at dksX0_enough_4 13 rfl rfl)
theorem dX0_enough_111 : decode cX0_enough 111 = .ok (.iload_n 2, 1) := dk_28 (dk_at dksX0_enough_4 16 rfl rfl)
theorem dX0_enough_112 : decode cX0_enough 112 = .ok (.iconst (-1), 1) := dk_2 (dk_at dksX0_enough_4 17 rfl rfl)
theorem dX0_enough_113 : decode cX0_enough 113 = .ok (.if_icmp .eq 8, 3) := dk_159 0 8 (dk_at dksX0_enough_4 18 rfl rfl)
theorem dX0_enough_116 : decode cX0_enough 116 = .ok (.iload_n 1, 1) := dk_27 (dk_at dksX0_enough_4 21 rfl rfl)
theorem dX0_enough_117 : decode cX0_enough 117 = .ok (.iconst 1, 1) := dk_4 (dk_at dksX0_enough_4 22 rfl rfl)
theorem dX0_enough_118 : decode cX0_enough 118 = .ok (.if_icmp .ne 7, 3) := dk_160 0 7 (dk_at dksX0_enough_5 0 rfl rfl)
theorem dX0_enough_121 : decode cX0_enough 121 = .ok (.iload_n 2, 1) := dk_28 (dk_at dksX0_enough_5 3 rfl rfl)
theorem dX0_enough_122 : decode cX0_enough 122 = .ok (.goto 7, 3) := dk_167 0 7 (dk_at dksX0_enough_5 4 rfl rfl)
theorem dX0_enough_125 : decode cX0_enough 125 = .ok (.iload_n 2, 1) := dk_28 (dk_at dksX0_enough_5 7 rfl rfl)
theorem dX0_enough_126 : decode cX0_enough 126 = .ok (.invokestatic 374, 3) := dk_184 1 118 (dk_at dksX0_enough_5 8 rfl rfl)
theorem dX0_enough_129 : decode cX0_enough 129 = .ok (.ireturn, 1) := dk_172 (dk_at dksX0_enough_5 11 rfl rfl)
abbrev cX0_ones : ByteArray := prog_1_method_5_code
def yX0_ones : MethodName := ⟨RX0, "ones", "(I)I"⟩
theorem dX0_ones_0 : decode cX0_ones 0 = .ok (.iload_n 0, 1) := by decide +kernel
theorem dX0_ones_1 : decode cX0_ones 1 = .ok (.invokestatic 11, 3) := by decide +kernel
theorem dX0_ones_4 : decode cX0_ones 4 = .ok (.ireturn, 1) := by decide +kernel
abbrev cX0_seenFrom : ByteArray := prog_1_method_71_code
def yX0_seenFrom : MethodName := ⟨RX0, "seenFrom", "(II)I"⟩
def dkwX0_seenFrom_2 : List UInt8 := [3, 96, 62, 132, 4, 1, 167, 255, 207, 29, 172]
abbrev dktX0_seenFrom_2 : List UInt8 := dkwX0_seenFrom_2 ++ []
def dkwX0_seenFrom_1 : List UInt8 := [153, 0, 24, 42, 180, 0, 43, 180, 1, 109, 21, 4, 46, 27, 184, 0, 245, 153, 0, 7, 4, 167, 0, 4]
abbrev dktX0_seenFrom_1 : List UInt8 := dkwX0_seenFrom_1 ++ dktX0_seenFrom_2
def dkwX0_seenFrom_0 : List UInt8 := [3, 62, 3, 54, 4, 21, 4, 42, 180, 0, 43, 180, 1, 106, 162, 0, 43, 29, 28, 21, 4, 184, 0, 245]
abbrev dktX0_seenFrom_0 : List UInt8 := dkwX0_seenFrom_0 ++ dktX0_seenFrom_1
theorem dksX0_seenFrom_0 : cX0_seenFrom.data.toList.drop 0 = dktX0_seenFrom_0 := by decide +kernel
theorem dksX0_seenFrom_1 : cX0_seenFrom.data.toList.drop 24 = dktX0_seenFrom_1 := dk_seg dksX0_seenFrom_0 24 rfl rfl
theorem dksX0_seenFrom_2 : cX0_seenFrom.data.toList.drop 48 = dktX0_seenFrom_2 := dk_seg dksX0_seenFrom_1 24 rfl rfl
theorem dX0_seenFrom_0 : decode cX0_seenFrom 0 = .ok (.iconst 0, 1) := dk_3 (dk_at dksX0_seenFrom_0 0 rfl rfl)
theorem dX0_seenFrom_1 : decode cX0_seenFrom 1 = .ok (.istore_n 3, 1) := dk_62 (dk_at dksX0_seenFrom_0 1 rfl rfl)
theorem dX0_seenFrom_2 : decode cX0_seenFrom 2 = .ok (.iconst 0, 1) := dk_3 (dk_at dksX0_seenFrom_0 2 rfl rfl)
theorem dX0_seenFrom_3 : decode cX0_seenFrom 3 = .ok (.istore 4, 2) := dk_54 4 (dk_at dksX0_seenFrom_0 3 rfl rfl)
theorem dX0_seenFrom_5 : decode cX0_seenFrom 5 = .ok (.iload 4, 2) := dk_21 4 (dk_at dksX0_seenFrom_0 5 rfl rfl)
theorem dX0_seenFrom_7 : decode cX0_seenFrom 7 = .ok (.aload_n 0, 1) := dk_42 (dk_at dksX0_seenFrom_0 7 rfl rfl)
theorem dX0_seenFrom_8 : decode cX0_seenFrom 8 = .ok (.getfield 43, 3) := dk_180 0 43 (dk_at dksX0_seenFrom_0 8 rfl rfl)
theorem dX0_seenFrom_11 : decode cX0_seenFrom 11 = .ok (.getfield 362, 3) := dk_180 1 106 (dk_at dksX0_seenFrom_0 11 rfl rfl)
theorem dX0_seenFrom_14 : decode cX0_seenFrom 14 = .ok (.if_icmp .ge 43, 3) := dk_162 0 43 (dk_at dksX0_seenFrom_0 14 rfl rfl)
theorem dX0_seenFrom_17 : decode cX0_seenFrom 17 = .ok (.iload_n 3, 1) := dk_29 (dk_at dksX0_seenFrom_0 17 rfl rfl)
theorem dX0_seenFrom_18 : decode cX0_seenFrom 18 = .ok (.iload_n 2, 1) := dk_28 (dk_at dksX0_seenFrom_0 18 rfl rfl)
theorem dX0_seenFrom_19 : decode cX0_seenFrom 19 = .ok (.iload 4, 2) := dk_21 4 (dk_at dksX0_seenFrom_0 19 rfl rfl)
theorem dX0_seenFrom_21 : decode cX0_seenFrom 21 = .ok (.invokestatic 245, 3) := dk_184 0 245 (dk_at dksX0_seenFrom_0 21 rfl rfl)
theorem dX0_seenFrom_24 : decode cX0_seenFrom 24 = .ok (.ifCond .eq 24, 3) := dk_153 0 24 (dk_at dksX0_seenFrom_1 0 rfl rfl)
theorem dX0_seenFrom_27 : decode cX0_seenFrom 27 = .ok (.aload_n 0, 1) := dk_42 (dk_at dksX0_seenFrom_1 3 rfl rfl)
theorem dX0_seenFrom_28 : decode cX0_seenFrom 28 = .ok (.getfield 43, 3) := dk_180 0 43 (dk_at dksX0_seenFrom_1 4 rfl rfl)
theorem dX0_seenFrom_31 : decode cX0_seenFrom 31 = .ok (.getfield 365, 3) := dk_180 1 109 (dk_at dksX0_seenFrom_1 7 rfl rfl)
theorem dX0_seenFrom_34 : decode cX0_seenFrom 34 = .ok (.iload 4, 2) := dk_21 4 (dk_at dksX0_seenFrom_1 10 rfl rfl)
theorem dX0_seenFrom_36 : decode cX0_seenFrom 36 = .ok (.iaload, 1) := dk_46 (dk_at dksX0_seenFrom_1 12 rfl rfl)
theorem dX0_seenFrom_37 : decode cX0_seenFrom 37 = .ok (.iload_n 1, 1) := dk_27 (dk_at dksX0_seenFrom_1 13 rfl rfl)
theorem dX0_seenFrom_38 : decode cX0_seenFrom 38 = .ok (.invokestatic 245, 3) := dk_184 0 245 (dk_at dksX0_seenFrom_1 14 rfl rfl)
theorem dX0_seenFrom_41 : decode cX0_seenFrom 41 = .ok (.ifCond .eq 7, 3) := dk_153 0 7 (dk_at dksX0_seenFrom_1 17 rfl rfl)
theorem dX0_seenFrom_44 : decode cX0_seenFrom 44 = .ok (.iconst 1, 1) := dk_4 (dk_at dksX0_seenFrom_1 20 rfl rfl)
theorem dX0_seenFrom_45 : decode cX0_seenFrom 45 = .ok (.goto 4, 3) := dk_167 0 4 (dk_at dksX0_seenFrom_1 21 rfl rfl)
theorem dX0_seenFrom_48 : decode cX0_seenFrom 48 = .ok (.iconst 0, 1) := dk_3 (dk_at dksX0_seenFrom_2 0 rfl rfl)
theorem dX0_seenFrom_49 : decode cX0_seenFrom 49 = .ok (.iadd, 1) := dk_96 (dk_at dksX0_seenFrom_2 1 rfl rfl)
theorem dX0_seenFrom_50 : decode cX0_seenFrom 50 = .ok (.istore_n 3, 1) := dk_62 (dk_at dksX0_seenFrom_2 2 rfl rfl)
theorem dX0_seenFrom_51 : decode cX0_seenFrom 51 = .ok (.iinc 4 1, 3) := dk_132 4 1 (dk_at dksX0_seenFrom_2 3 rfl rfl)
theorem dX0_seenFrom_54 : decode cX0_seenFrom 54 = .ok (.goto (-49), 3) := dk_167 255 207 (dk_at dksX0_seenFrom_2 6 rfl rfl)
theorem dX0_seenFrom_57 : decode cX0_seenFrom 57 = .ok (.iload_n 3, 1) := dk_29 (dk_at dksX0_seenFrom_2 9 rfl rfl)
theorem dX0_seenFrom_58 : decode cX0_seenFrom 58 = .ok (.ireturn, 1) := dk_172 (dk_at dksX0_seenFrom_2 10 rfl rfl)
abbrev cX0_counted : ByteArray := prog_1_method_73_code
def yX0_counted : MethodName := ⟨RX0, "counted", "(II)I"⟩
def dkwX0_counted_4 : List UInt8 := [42, 42, 180, 0, 43, 180, 1, 124, 182, 0, 109, 172]
abbrev dktX0_counted_4 : List UInt8 := dkwX0_counted_4 ++ []
def dkwX0_counted_3 : List UInt8 := [180, 0, 43, 180, 1, 124, 104, 4, 96, 28, 79, 42, 180, 0, 43, 89, 180, 1, 124, 4, 96, 181, 1, 124]
abbrev dktX0_counted_3 : List UInt8 := dkwX0_counted_3 ++ dktX0_counted_4
def dkwX0_counted_2 : List UInt8 := [180, 1, 127, 5, 42, 180, 0, 43, 180, 1, 124, 104, 27, 79, 42, 180, 0, 43, 180, 1, 127, 5, 42]
abbrev dktX0_counted_2 : List UInt8 := dkwX0_counted_2 ++ dktX0_counted_3
def dkwX0_counted_1 : List UInt8 := [180, 0, 43, 180, 1, 124, 16, 8, 160, 0, 10, 42, 16, 251, 182, 0, 115, 172, 42, 180, 0, 43]
abbrev dktX0_counted_1 : List UInt8 := dkwX0_counted_1 ++ dktX0_counted_2
def dkwX0_counted_0 : List UInt8 := [27, 184, 1, 112, 153, 0, 13, 28, 3, 16, 9, 184, 0, 26, 154, 0, 9, 42, 2, 182, 0, 115, 172, 42]
abbrev dktX0_counted_0 : List UInt8 := dkwX0_counted_0 ++ dktX0_counted_1
theorem dksX0_counted_0 : cX0_counted.data.toList.drop 0 = dktX0_counted_0 := by decide +kernel
theorem dksX0_counted_1 : cX0_counted.data.toList.drop 24 = dktX0_counted_1 := dk_seg dksX0_counted_0 24 rfl rfl
theorem dksX0_counted_2 : cX0_counted.data.toList.drop 46 = dktX0_counted_2 := dk_seg dksX0_counted_1 22 rfl rfl
theorem dksX0_counted_3 : cX0_counted.data.toList.drop 69 = dktX0_counted_3 := dk_seg dksX0_counted_2 23 rfl rfl
theorem dksX0_counted_4 : cX0_counted.data.toList.drop 93 = dktX0_counted_4 := dk_seg dksX0_counted_3 24 rfl rfl
theorem dX0_counted_0 : decode cX0_counted 0 = .ok (.iload_n 1, 1) := dk_27 (dk_at dksX0_counted_0 0 rfl rfl)
theorem dX0_counted_1 : decode cX0_counted 1 = .ok (.invokestatic 368, 3) := dk_184 1 112 (dk_at dksX0_counted_0 1 rfl rfl)
theorem dX0_counted_4 : decode cX0_counted 4 = .ok (.ifCond .eq 13, 3) := dk_153 0 13 (dk_at dksX0_counted_0 4 rfl rfl)
theorem dX0_counted_7 : decode cX0_counted 7 = .ok (.iload_n 2, 1) := dk_28 (dk_at dksX0_counted_0 7 rfl rfl)
theorem dX0_counted_8 : decode cX0_counted 8 = .ok (.iconst 0, 1) := dk_3 (dk_at dksX0_counted_0 8 rfl rfl)
theorem dX0_counted_9 : decode cX0_counted 9 = .ok (.bipush 9, 2) := dk_16 9 (dk_at dksX0_counted_0 9 rfl rfl)
theorem dX0_counted_11 : decode cX0_counted 11 = .ok (.invokestatic 26, 3) := dk_184 0 26 (dk_at dksX0_counted_0 11 rfl rfl)
theorem dX0_counted_14 : decode cX0_counted 14 = .ok (.ifCond .ne 9, 3) := dk_154 0 9 (dk_at dksX0_counted_0 14 rfl rfl)
theorem dX0_counted_17 : decode cX0_counted 17 = .ok (.aload_n 0, 1) := dk_42 (dk_at dksX0_counted_0 17 rfl rfl)
theorem dX0_counted_18 : decode cX0_counted 18 = .ok (.iconst (-1), 1) := dk_2 (dk_at dksX0_counted_0 18 rfl rfl)
theorem dX0_counted_19 : decode cX0_counted 19 = .ok (.invokevirtual 115, 3) := dk_182 0 115 (dk_at dksX0_counted_0 19 rfl rfl)
theorem dX0_counted_22 : decode cX0_counted 22 = .ok (.ireturn, 1) := dk_172 (dk_at dksX0_counted_0 22 rfl rfl)
theorem dX0_counted_23 : decode cX0_counted 23 = .ok (.aload_n 0, 1) := dk_42 (dk_at dksX0_counted_0 23 rfl rfl)
theorem dX0_counted_24 : decode cX0_counted 24 = .ok (.getfield 43, 3) := dk_180 0 43 (dk_at dksX0_counted_1 0 rfl rfl)
theorem dX0_counted_27 : decode cX0_counted 27 = .ok (.getfield 380, 3) := dk_180 1 124 (dk_at dksX0_counted_1 3 rfl rfl)
theorem dX0_counted_30 : decode cX0_counted 30 = .ok (.bipush 8, 2) := dk_16 8 (dk_at dksX0_counted_1 6 rfl rfl)
theorem dX0_counted_32 : decode cX0_counted 32 = .ok (.if_icmp .ne 10, 3) := dk_160 0 10 (dk_at dksX0_counted_1 8 rfl rfl)
theorem dX0_counted_35 : decode cX0_counted 35 = .ok (.aload_n 0, 1) := dk_42 (dk_at dksX0_counted_1 11 rfl rfl)
theorem dX0_counted_36 : decode cX0_counted 36 = .ok (.bipush (-5), 2) := dk_16 251 (dk_at dksX0_counted_1 12 rfl rfl)
theorem dX0_counted_38 : decode cX0_counted 38 = .ok (.invokevirtual 115, 3) := dk_182 0 115 (dk_at dksX0_counted_1 14 rfl rfl)
theorem dX0_counted_41 : decode cX0_counted 41 = .ok (.ireturn, 1) := dk_172 (dk_at dksX0_counted_1 17 rfl rfl)
theorem dX0_counted_42 : decode cX0_counted 42 = .ok (.aload_n 0, 1) := dk_42 (dk_at dksX0_counted_1 18 rfl rfl)
theorem dX0_counted_43 : decode cX0_counted 43 = .ok (.getfield 43, 3) := dk_180 0 43 (dk_at dksX0_counted_1 19 rfl rfl)
theorem dX0_counted_46 : decode cX0_counted 46 = .ok (.getfield 383, 3) := dk_180 1 127 (dk_at dksX0_counted_2 0 rfl rfl)
theorem dX0_counted_49 : decode cX0_counted 49 = .ok (.iconst 2, 1) := dk_5 (dk_at dksX0_counted_2 3 rfl rfl)
theorem dX0_counted_50 : decode cX0_counted 50 = .ok (.aload_n 0, 1) := dk_42 (dk_at dksX0_counted_2 4 rfl rfl)
theorem dX0_counted_51 : decode cX0_counted 51 = .ok (.getfield 43, 3) := dk_180 0 43 (dk_at dksX0_counted_2 5 rfl rfl)
theorem dX0_counted_54 : decode cX0_counted 54 = .ok (.getfield 380, 3) := dk_180 1 124 (dk_at dksX0_counted_2 8 rfl rfl)
theorem dX0_counted_57 : decode cX0_counted 57 = .ok (.imul, 1) := dk_104 (dk_at dksX0_counted_2 11 rfl rfl)
theorem dX0_counted_58 : decode cX0_counted 58 = .ok (.iload_n 1, 1) := dk_27 (dk_at dksX0_counted_2 12 rfl rfl)
theorem dX0_counted_59 : decode cX0_counted 59 = .ok (.iastore, 1) := dk_79 (dk_at dksX0_counted_2 13 rfl rfl)
theorem dX0_counted_60 : decode cX0_counted 60 = .ok (.aload_n 0, 1) := dk_42 (dk_at dksX0_counted_2 14 rfl rfl)
theorem dX0_counted_61 : decode cX0_counted 61 = .ok (.getfield 43, 3) := dk_180 0 43 (dk_at dksX0_counted_2 15 rfl rfl)
theorem dX0_counted_64 : decode cX0_counted 64 = .ok (.getfield 383, 3) := dk_180 1 127 (dk_at dksX0_counted_2 18 rfl rfl)
theorem dX0_counted_67 : decode cX0_counted 67 = .ok (.iconst 2, 1) := dk_5 (dk_at dksX0_counted_2 21 rfl rfl)
theorem dX0_counted_68 : decode cX0_counted 68 = .ok (.aload_n 0, 1) := dk_42 (dk_at dksX0_counted_2 22 rfl rfl)
theorem dX0_counted_69 : decode cX0_counted 69 = .ok (.getfield 43, 3) := dk_180 0 43 (dk_at dksX0_counted_3 0 rfl rfl)
theorem dX0_counted_72 : decode cX0_counted 72 = .ok (.getfield 380, 3) := dk_180 1 124 (dk_at dksX0_counted_3 3 rfl rfl)
theorem dX0_counted_75 : decode cX0_counted 75 = .ok (.imul, 1) := dk_104 (dk_at dksX0_counted_3 6 rfl rfl)
theorem dX0_counted_76 : decode cX0_counted 76 = .ok (.iconst 1, 1) := dk_4 (dk_at dksX0_counted_3 7 rfl rfl)
theorem dX0_counted_77 : decode cX0_counted 77 = .ok (.iadd, 1) := dk_96 (dk_at dksX0_counted_3 8 rfl rfl)
theorem dX0_counted_78 : decode cX0_counted 78 = .ok (.iload_n 2, 1) := dk_28 (dk_at dksX0_counted_3 9 rfl rfl)
theorem dX0_counted_79 : decode cX0_counted 79 = .ok (.iastore, 1) := dk_79 (dk_at dksX0_counted_3 10 rfl rfl)
theorem dX0_counted_80 : decode cX0_counted 80 = .ok (.aload_n 0, 1) := dk_42 (dk_at dksX0_counted_3 11 rfl rfl)
theorem dX0_counted_81 : decode cX0_counted 81 = .ok (.getfield 43, 3) := dk_180 0 43 (dk_at dksX0_counted_3 12 rfl rfl)
theorem dX0_counted_84 : decode cX0_counted 84 = .ok (.dup, 1) := dk_89 (dk_at dksX0_counted_3 15 rfl rfl)
theorem dX0_counted_85 : decode cX0_counted 85 = .ok (.getfield 380, 3) := dk_180 1 124 (dk_at dksX0_counted_3 16 rfl rfl)
theorem dX0_counted_88 : decode cX0_counted 88 = .ok (.iconst 1, 1) := dk_4 (dk_at dksX0_counted_3 19 rfl rfl)
theorem dX0_counted_89 : decode cX0_counted 89 = .ok (.iadd, 1) := dk_96 (dk_at dksX0_counted_3 20 rfl rfl)
theorem dX0_counted_90 : decode cX0_counted 90 = .ok (.putfield 380, 3) := dk_181 1 124 (dk_at dksX0_counted_3 21 rfl rfl)
theorem dX0_counted_93 : decode cX0_counted 93 = .ok (.aload_n 0, 1) := dk_42 (dk_at dksX0_counted_4 0 rfl rfl)
theorem dX0_counted_94 : decode cX0_counted 94 = .ok (.aload_n 0, 1) := dk_42 (dk_at dksX0_counted_4 1 rfl rfl)
theorem dX0_counted_95 : decode cX0_counted 95 = .ok (.getfield 43, 3) := dk_180 0 43 (dk_at dksX0_counted_4 2 rfl rfl)
theorem dX0_counted_98 : decode cX0_counted 98 = .ok (.getfield 380, 3) := dk_180 1 124 (dk_at dksX0_counted_4 5 rfl rfl)
theorem dX0_counted_101 : decode cX0_counted 101 = .ok (.invokevirtual 109, 3) := dk_182 0 109 (dk_at dksX0_counted_4 8 rfl rfl)
theorem dX0_counted_104 : decode cX0_counted 104 = .ok (.ireturn, 1) := dk_172 (dk_at dksX0_counted_4 11 rfl rfl)
abbrev cX0_forget : ByteArray := prog_1_method_74_code
def yX0_forget : MethodName := ⟨RX0, "forget", "()I"⟩
def dkwX0_forget_2 : List UInt8 := [27, 172]
abbrev dktX0_forget_2 : List UInt8 := dkwX0_forget_2 ++ []
def dkwX0_forget_1 : List UInt8 := [42, 180, 0, 43, 3, 181, 1, 92, 42, 180, 0, 43, 3, 181, 1, 106, 42, 180, 0, 43, 3, 181, 1, 124]
abbrev dktX0_forget_1 : List UInt8 := dkwX0_forget_1 ++ dktX0_forget_2
def dkwX0_forget_0 : List UInt8 := [42, 180, 0, 43, 180, 1, 92, 42, 180, 0, 43, 180, 1, 106, 96, 42, 180, 0, 43, 180, 1, 124, 96, 60]
abbrev dktX0_forget_0 : List UInt8 := dkwX0_forget_0 ++ dktX0_forget_1
theorem dksX0_forget_0 : cX0_forget.data.toList.drop 0 = dktX0_forget_0 := by decide +kernel
theorem dksX0_forget_1 : cX0_forget.data.toList.drop 24 = dktX0_forget_1 := dk_seg dksX0_forget_0 24 rfl rfl
theorem dksX0_forget_2 : cX0_forget.data.toList.drop 48 = dktX0_forget_2 := dk_seg dksX0_forget_1 24 rfl rfl
theorem dX0_forget_0 : decode cX0_forget 0 = .ok (.aload_n 0, 1) := dk_42 (dk_at dksX0_forget_0 0 rfl rfl)
theorem dX0_forget_1 : decode cX0_forget 1 = .ok (.getfield 43, 3) := dk_180 0 43 (dk_at dksX0_forget_0 1 rfl rfl)
theorem dX0_forget_4 : decode cX0_forget 4 = .ok (.getfield 348, 3) := dk_180 1 92 (dk_at dksX0_forget_0 4 rfl rfl)
theorem dX0_forget_7 : decode cX0_forget 7 = .ok (.aload_n 0, 1) := dk_42 (dk_at dksX0_forget_0 7 rfl rfl)
theorem dX0_forget_8 : decode cX0_forget 8 = .ok (.getfield 43, 3) := dk_180 0 43 (dk_at dksX0_forget_0 8 rfl rfl)
theorem dX0_forget_11 : decode cX0_forget 11 = .ok (.getfield 362, 3) := dk_180 1 106 (dk_at dksX0_forget_0 11 rfl rfl)
theorem dX0_forget_14 : decode cX0_forget 14 = .ok (.iadd, 1) := dk_96 (dk_at dksX0_forget_0 14 rfl rfl)
theorem dX0_forget_15 : decode cX0_forget 15 = .ok (.aload_n 0, 1) := dk_42 (dk_at dksX0_forget_0 15 rfl rfl)
theorem dX0_forget_16 : decode cX0_forget 16 = .ok (.getfield 43, 3) := dk_180 0 43 (dk_at dksX0_forget_0 16 rfl rfl)
theorem dX0_forget_19 : decode cX0_forget 19 = .ok (.getfield 380, 3) := dk_180 1 124 (dk_at dksX0_forget_0 19 rfl rfl)
theorem dX0_forget_22 : decode cX0_forget 22 = .ok (.iadd, 1) := dk_96 (dk_at dksX0_forget_0 22 rfl rfl)
theorem dX0_forget_23 : decode cX0_forget 23 = .ok (.istore_n 1, 1) := dk_60 (dk_at dksX0_forget_0 23 rfl rfl)
theorem dX0_forget_24 : decode cX0_forget 24 = .ok (.aload_n 0, 1) := dk_42 (dk_at dksX0_forget_1 0 rfl rfl)
theorem dX0_forget_25 : decode cX0_forget 25 = .ok (.getfield 43, 3) := dk_180 0 43 (dk_at dksX0_forget_1 1 rfl rfl)
theorem dX0_forget_28 : decode cX0_forget 28 = .ok (.iconst 0, 1) := dk_3 (dk_at dksX0_forget_1 4 rfl rfl)
theorem dX0_forget_29 : decode cX0_forget 29 = .ok (.putfield 348, 3) := dk_181 1 92 (dk_at dksX0_forget_1 5 rfl rfl)
theorem dX0_forget_32 : decode cX0_forget 32 = .ok (.aload_n 0, 1) := dk_42 (dk_at dksX0_forget_1 8 rfl rfl)
theorem dX0_forget_33 : decode cX0_forget 33 = .ok (.getfield 43, 3) := dk_180 0 43 (dk_at dksX0_forget_1 9 rfl rfl)
theorem dX0_forget_36 : decode cX0_forget 36 = .ok (.iconst 0, 1) := dk_3 (dk_at dksX0_forget_1 12 rfl rfl)
theorem dX0_forget_37 : decode cX0_forget 37 = .ok (.putfield 362, 3) := dk_181 1 106 (dk_at dksX0_forget_1 13 rfl rfl)
theorem dX0_forget_40 : decode cX0_forget 40 = .ok (.aload_n 0, 1) := dk_42 (dk_at dksX0_forget_1 16 rfl rfl)
theorem dX0_forget_41 : decode cX0_forget 41 = .ok (.getfield 43, 3) := dk_180 0 43 (dk_at dksX0_forget_1 17 rfl rfl)
theorem dX0_forget_44 : decode cX0_forget 44 = .ok (.iconst 0, 1) := dk_3 (dk_at dksX0_forget_1 20 rfl rfl)
theorem dX0_forget_45 : decode cX0_forget 45 = .ok (.putfield 380, 3) := dk_181 1 124 (dk_at dksX0_forget_1 21 rfl rfl)
theorem dX0_forget_48 : decode cX0_forget 48 = .ok (.iload_n 1, 1) := dk_27 (dk_at dksX0_forget_2 0 rfl rfl)
theorem dX0_forget_49 : decode cX0_forget 49 = .ok (.ireturn, 1) := dk_172 (dk_at dksX0_forget_2 1 rfl rfl)
abbrev cX0_fits : ByteArray := prog_1_method_76_code
def yX0_fits : MethodName := ⟨RX0, "fits", "(I)I"⟩
def dkwX0_fits_2 : List UInt8 := [167, 255, 219, 27, 2, 160, 0, 7, 28, 167, 0, 4, 2, 172]
abbrev dktX0_fits_2 : List UInt8 := dkwX0_fits_2 ++ []
def dkwX0_fits_1 : List UInt8 := [42, 29, 182, 1, 130, 154, 0, 6, 167, 0, 13, 28, 27, 160, 0, 5, 29, 172, 132, 2, 1, 132, 3, 1]
abbrev dktX0_fits_1 : List UInt8 := dkwX0_fits_1 ++ dktX0_fits_2
def dkwX0_fits_0 : List UInt8 := [27, 2, 162, 0, 5, 2, 172, 3, 61, 3, 62, 29, 4, 42, 180, 0, 43, 180, 1, 106, 120, 162, 0, 30]
abbrev dktX0_fits_0 : List UInt8 := dkwX0_fits_0 ++ dktX0_fits_1
theorem dksX0_fits_0 : cX0_fits.data.toList.drop 0 = dktX0_fits_0 := by decide +kernel
theorem dksX0_fits_1 : cX0_fits.data.toList.drop 24 = dktX0_fits_1 := dk_seg dksX0_fits_0 24 rfl rfl
theorem dksX0_fits_2 : cX0_fits.data.toList.drop 48 = dktX0_fits_2 := dk_seg dksX0_fits_1 24 rfl rfl
theorem dX0_fits_0 : decode cX0_fits 0 = .ok (.iload_n 1, 1) := dk_27 (dk_at dksX0_fits_0 0 rfl rfl)
theorem dX0_fits_1 : decode cX0_fits 1 = .ok (.iconst (-1), 1) := dk_2 (dk_at dksX0_fits_0 1 rfl rfl)
theorem dX0_fits_2 : decode cX0_fits 2 = .ok (.if_icmp .ge 5, 3) := dk_162 0 5 (dk_at dksX0_fits_0 2 rfl rfl)
theorem dX0_fits_5 : decode cX0_fits 5 = .ok (.iconst (-1), 1) := dk_2 (dk_at dksX0_fits_0 5 rfl rfl)
theorem dX0_fits_6 : decode cX0_fits 6 = .ok (.ireturn, 1) := dk_172 (dk_at dksX0_fits_0 6 rfl rfl)
theorem dX0_fits_7 : decode cX0_fits 7 = .ok (.iconst 0, 1) := dk_3 (dk_at dksX0_fits_0 7 rfl rfl)
theorem dX0_fits_8 : decode cX0_fits 8 = .ok (.istore_n 2, 1) := dk_61 (dk_at dksX0_fits_0 8 rfl rfl)
theorem dX0_fits_9 : decode cX0_fits 9 = .ok (.iconst 0, 1) := dk_3 (dk_at dksX0_fits_0 9 rfl rfl)
theorem dX0_fits_10 : decode cX0_fits 10 = .ok (.istore_n 3, 1) := dk_62 (dk_at dksX0_fits_0 10 rfl rfl)
theorem dX0_fits_11 : decode cX0_fits 11 = .ok (.iload_n 3, 1) := dk_29 (dk_at dksX0_fits_0 11 rfl rfl)
theorem dX0_fits_12 : decode cX0_fits 12 = .ok (.iconst 1, 1) := dk_4 (dk_at dksX0_fits_0 12 rfl rfl)
theorem dX0_fits_13 : decode cX0_fits 13 = .ok (.aload_n 0, 1) := dk_42 (dk_at dksX0_fits_0 13 rfl rfl)
theorem dX0_fits_14 : decode cX0_fits 14 = .ok (.getfield 43, 3) := dk_180 0 43 (dk_at dksX0_fits_0 14 rfl rfl)
theorem dX0_fits_17 : decode cX0_fits 17 = .ok (.getfield 362, 3) := dk_180 1 106 (dk_at dksX0_fits_0 17 rfl rfl)
theorem dX0_fits_20 : decode cX0_fits 20 = .ok (.ishl, 1) := dk_120 (dk_at dksX0_fits_0 20 rfl rfl)
theorem dX0_fits_21 : decode cX0_fits 21 = .ok (.if_icmp .ge 30, 3) := dk_162 0 30 (dk_at dksX0_fits_0 21 rfl rfl)
theorem dX0_fits_24 : decode cX0_fits 24 = .ok (.aload_n 0, 1) := dk_42 (dk_at dksX0_fits_1 0 rfl rfl)
theorem dX0_fits_25 : decode cX0_fits 25 = .ok (.iload_n 3, 1) := dk_29 (dk_at dksX0_fits_1 1 rfl rfl)
theorem dX0_fits_26 : decode cX0_fits 26 = .ok (.invokevirtual 386, 3) := dk_182 1 130 (dk_at dksX0_fits_1 2 rfl rfl)
theorem dX0_fits_29 : decode cX0_fits 29 = .ok (.ifCond .ne 6, 3) := dk_154 0 6 (dk_at dksX0_fits_1 5 rfl rfl)
theorem dX0_fits_32 : decode cX0_fits 32 = .ok (.goto 13, 3) := dk_167 0 13 (dk_at dksX0_fits_1 8 rfl rfl)
theorem dX0_fits_35 : decode cX0_fits 35 = .ok (.iload_n 2, 1) := dk_28 (dk_at dksX0_fits_1 11 rfl rfl)
theorem dX0_fits_36 : decode cX0_fits 36 = .ok (.iload_n 1, 1) := dk_27 (dk_at dksX0_fits_1 12 rfl rfl)
theorem dX0_fits_37 : decode cX0_fits 37 = .ok (.if_icmp .ne 5, 3) := dk_160 0 5 (dk_at dksX0_fits_1 13 rfl rfl)
theorem dX0_fits_40 : decode cX0_fits 40 = .ok (.iload_n 3, 1) := dk_29 (dk_at dksX0_fits_1 16 rfl rfl)
theorem dX0_fits_41 : decode cX0_fits 41 = .ok (.ireturn, 1) := dk_172 (dk_at dksX0_fits_1 17 rfl rfl)
theorem dX0_fits_42 : decode cX0_fits 42 = .ok (.iinc 2 1, 3) := dk_132 2 1 (dk_at dksX0_fits_1 18 rfl rfl)
theorem dX0_fits_45 : decode cX0_fits 45 = .ok (.iinc 3 1, 3) := dk_132 3 1 (dk_at dksX0_fits_1 21 rfl rfl)
theorem dX0_fits_48 : decode cX0_fits 48 = .ok (.goto (-37), 3) := dk_167 255 219 (dk_at dksX0_fits_2 0 rfl rfl)
theorem dX0_fits_51 : decode cX0_fits 51 = .ok (.iload_n 1, 1) := dk_27 (dk_at dksX0_fits_2 3 rfl rfl)
theorem dX0_fits_52 : decode cX0_fits 52 = .ok (.iconst (-1), 1) := dk_2 (dk_at dksX0_fits_2 4 rfl rfl)
theorem dX0_fits_53 : decode cX0_fits 53 = .ok (.if_icmp .ne 7, 3) := dk_160 0 7 (dk_at dksX0_fits_2 5 rfl rfl)
theorem dX0_fits_56 : decode cX0_fits 56 = .ok (.iload_n 2, 1) := dk_28 (dk_at dksX0_fits_2 8 rfl rfl)
theorem dX0_fits_57 : decode cX0_fits 57 = .ok (.goto 4, 3) := dk_167 0 4 (dk_at dksX0_fits_2 9 rfl rfl)
theorem dX0_fits_60 : decode cX0_fits 60 = .ok (.iconst (-1), 1) := dk_2 (dk_at dksX0_fits_2 12 rfl rfl)
theorem dX0_fits_61 : decode cX0_fits 61 = .ok (.ireturn, 1) := dk_172 (dk_at dksX0_fits_2 13 rfl rfl)
abbrev cX0_isFitting : ByteArray := prog_1_method_75_code
def yX0_isFitting : MethodName := ⟨RX0, "isFitting", "(I)Z"⟩
def dkwX0_isFitting_2 : List UInt8 := [132, 2, 1, 167, 255, 208, 4, 172]
abbrev dktX0_isFitting_2 : List UInt8 := dkwX0_isFitting_2 ++ []
def dkwX0_isFitting_1 : List UInt8 := [46, 27, 182, 1, 121, 42, 180, 0, 43, 180, 1, 127, 5, 28, 104, 4, 96, 46, 159, 0, 5, 3, 172]
abbrev dktX0_isFitting_1 : List UInt8 := dkwX0_isFitting_1 ++ dktX0_isFitting_2
def dkwX0_isFitting_0 : List UInt8 := [3, 61, 28, 42, 180, 0, 43, 180, 1, 124, 162, 0, 43, 42, 42, 180, 0, 43, 180, 1, 127, 5, 28, 104]
abbrev dktX0_isFitting_0 : List UInt8 := dkwX0_isFitting_0 ++ dktX0_isFitting_1
theorem dksX0_isFitting_0 : cX0_isFitting.data.toList.drop 0 = dktX0_isFitting_0 := by decide +kernel
theorem dksX0_isFitting_1 : cX0_isFitting.data.toList.drop 24 = dktX0_isFitting_1 := dk_seg dksX0_isFitting_0 24 rfl rfl
theorem dksX0_isFitting_2 : cX0_isFitting.data.toList.drop 47 = dktX0_isFitting_2 := dk_seg dksX0_isFitting_1 23 rfl rfl
theorem dX0_isFitting_0 : decode cX0_isFitting 0 = .ok (.iconst 0, 1) := dk_3 (dk_at dksX0_isFitting_0 0 rfl rfl)
theorem dX0_isFitting_1 : decode cX0_isFitting 1 = .ok (.istore_n 2, 1) := dk_61 (dk_at dksX0_isFitting_0 1 rfl rfl)
theorem dX0_isFitting_2 : decode cX0_isFitting 2 = .ok (.iload_n 2, 1) := dk_28 (dk_at dksX0_isFitting_0 2 rfl rfl)
theorem dX0_isFitting_3 : decode cX0_isFitting 3 = .ok (.aload_n 0, 1) := dk_42 (dk_at dksX0_isFitting_0 3 rfl rfl)
theorem dX0_isFitting_4 : decode cX0_isFitting 4 = .ok (.getfield 43, 3) := dk_180 0 43 (dk_at dksX0_isFitting_0 4 rfl rfl)
theorem dX0_isFitting_7 : decode cX0_isFitting 7 = .ok (.getfield 380, 3) := dk_180 1 124 (dk_at dksX0_isFitting_0 7 rfl rfl)
theorem dX0_isFitting_10 : decode cX0_isFitting 10 = .ok (.if_icmp .ge 43, 3) := dk_162 0 43 (dk_at dksX0_isFitting_0 10 rfl rfl)
theorem dX0_isFitting_13 : decode cX0_isFitting 13 = .ok (.aload_n 0, 1) := dk_42 (dk_at dksX0_isFitting_0 13 rfl rfl)
theorem dX0_isFitting_14 : decode cX0_isFitting 14 = .ok (.aload_n 0, 1) := dk_42 (dk_at dksX0_isFitting_0 14 rfl rfl)
theorem dX0_isFitting_15 : decode cX0_isFitting 15 = .ok (.getfield 43, 3) := dk_180 0 43 (dk_at dksX0_isFitting_0 15 rfl rfl)
theorem dX0_isFitting_18 : decode cX0_isFitting 18 = .ok (.getfield 383, 3) := dk_180 1 127 (dk_at dksX0_isFitting_0 18 rfl rfl)
theorem dX0_isFitting_21 : decode cX0_isFitting 21 = .ok (.iconst 2, 1) := dk_5 (dk_at dksX0_isFitting_0 21 rfl rfl)
theorem dX0_isFitting_22 : decode cX0_isFitting 22 = .ok (.iload_n 2, 1) := dk_28 (dk_at dksX0_isFitting_0 22 rfl rfl)
theorem dX0_isFitting_23 : decode cX0_isFitting 23 = .ok (.imul, 1) := dk_104 (dk_at dksX0_isFitting_0 23 rfl rfl)
theorem dX0_isFitting_24 : decode cX0_isFitting 24 = .ok (.iaload, 1) := dk_46 (dk_at dksX0_isFitting_1 0 rfl rfl)
theorem dX0_isFitting_25 : decode cX0_isFitting 25 = .ok (.iload_n 1, 1) := dk_27 (dk_at dksX0_isFitting_1 1 rfl rfl)
theorem dX0_isFitting_26 : decode cX0_isFitting 26 = .ok (.invokevirtual 377, 3) := dk_182 1 121 (dk_at dksX0_isFitting_1 2 rfl rfl)
theorem dX0_isFitting_29 : decode cX0_isFitting 29 = .ok (.aload_n 0, 1) := dk_42 (dk_at dksX0_isFitting_1 5 rfl rfl)
theorem dX0_isFitting_30 : decode cX0_isFitting 30 = .ok (.getfield 43, 3) := dk_180 0 43 (dk_at dksX0_isFitting_1 6 rfl rfl)
theorem dX0_isFitting_33 : decode cX0_isFitting 33 = .ok (.getfield 383, 3) := dk_180 1 127 (dk_at dksX0_isFitting_1 9 rfl rfl)
theorem dX0_isFitting_36 : decode cX0_isFitting 36 = .ok (.iconst 2, 1) := dk_5 (dk_at dksX0_isFitting_1 12 rfl rfl)
theorem dX0_isFitting_37 : decode cX0_isFitting 37 = .ok (.iload_n 2, 1) := dk_28 (dk_at dksX0_isFitting_1 13 rfl rfl)
theorem dX0_isFitting_38 : decode cX0_isFitting 38 = .ok (.imul, 1) := dk_104 (dk_at dksX0_isFitting_1 14 rfl rfl)
theorem dX0_isFitting_39 : decode cX0_isFitting 39 = .ok (.iconst 1, 1) := dk_4 (dk_at dksX0_isFitting_1 15 rfl rfl)
theorem dX0_isFitting_40 : decode cX0_isFitting 40 = .ok (.iadd, 1) := dk_96 (dk_at dksX0_isFitting_1 16 rfl rfl)
theorem dX0_isFitting_41 : decode cX0_isFitting 41 = .ok (.iaload, 1) := dk_46 (dk_at dksX0_isFitting_1 17 rfl rfl)
theorem dX0_isFitting_42 : decode cX0_isFitting 42 = .ok (.if_icmp .eq 5, 3) := dk_159 0 5 (dk_at dksX0_isFitting_1 18 rfl rfl)
theorem dX0_isFitting_45 : decode cX0_isFitting 45 = .ok (.iconst 0, 1) := dk_3 (dk_at dksX0_isFitting_1 21 rfl rfl)
theorem dX0_isFitting_46 : decode cX0_isFitting 46 = .ok (.ireturn, 1) := dk_172 (dk_at dksX0_isFitting_1 22 rfl rfl)
theorem dX0_isFitting_47 : decode cX0_isFitting 47 = .ok (.iinc 2 1, 3) := dk_132 2 1 (dk_at dksX0_isFitting_2 0 rfl rfl)
theorem dX0_isFitting_50 : decode cX0_isFitting 50 = .ok (.goto (-48), 3) := dk_167 255 208 (dk_at dksX0_isFitting_2 3 rfl rfl)
theorem dX0_isFitting_53 : decode cX0_isFitting 53 = .ok (.iconst 1, 1) := dk_4 (dk_at dksX0_isFitting_2 6 rfl rfl)
theorem dX0_isFitting_54 : decode cX0_isFitting 54 = .ok (.ireturn, 1) := dk_172 (dk_at dksX0_isFitting_2 7 rfl rfl)
abbrev cX0_next : ByteArray := prog_1_method_77_code
def yX0_next : MethodName := ⟨RX0, "next", "(I)I"⟩
def dkwX0_next_8 : List UInt8 := [132, 5, 1, 167, 255, 186, 29, 2, 159, 0, 7, 27, 154, 0, 7, 29, 167, 0, 5, 21, 4, 172]
abbrev dktX0_next_8 : List UInt8 := dkwX0_next_8 ++ []
def dkwX0_next_7 : List UInt8 := [132, 7, 1, 167, 255, 226, 21, 6, 21, 4, 161, 0, 6, 167, 0, 10, 21, 6, 54, 4, 21, 5, 62]
abbrev dktX0_next_7 : List UInt8 := dkwX0_next_7 ++ dktX0_next_8
def dkwX0_next_6 : List UInt8 := [163, 0, 29, 21, 6, 42, 180, 0, 94, 16, 11, 21, 5, 104, 21, 7, 96, 46, 184, 1, 40, 54, 6]
abbrev dktX0_next_6 : List UInt8 := dkwX0_next_6 ++ dktX0_next_7
def dkwX0_next_5 : List UInt8 := [3, 54, 5, 21, 5, 16, 6, 162, 0, 69, 28, 158, 0, 65, 3, 54, 6, 3, 54, 7, 21, 7, 16, 10]
abbrev dktX0_next_5 : List UInt8 := dkwX0_next_5 ++ dktX0_next_6
def dkwX0_next_4 : List UInt8 := [92, 46, 4, 96, 79, 132, 4, 1, 167, 255, 224, 132, 3, 1, 167, 255, 188, 2, 62, 19, 1, 71, 54, 4]
abbrev dktX0_next_4 : List UInt8 := dkwX0_next_4 ++ dktX0_next_5
def dkwX0_next_3 : List UInt8 := [21, 4, 16, 6, 162, 0, 31, 42, 180, 0, 94, 16, 11, 21, 4, 104, 42, 21, 4, 29, 182, 1, 121, 96]
abbrev dktX0_next_3 : List UInt8 := dkwX0_next_3 ++ dktX0_next_4
def dkwX0_next_2 : List UInt8 := [180, 1, 106, 120, 162, 0, 61, 42, 29, 182, 1, 130, 154, 0, 6, 167, 0, 44, 132, 2, 1, 3, 54, 4]
abbrev dktX0_next_2 : List UInt8 := dkwX0_next_2 ++ dktX0_next_3
def dkwX0_next_1 : List UInt8 := [180, 0, 94, 28, 3, 79, 132, 2, 1, 167, 255, 237, 3, 61, 3, 62, 29, 4, 42, 180, 0, 43]
abbrev dktX0_next_1 : List UInt8 := dkwX0_next_1 ++ dktX0_next_2
def dkwX0_next_0 : List UInt8 := [27, 3, 4, 184, 0, 26, 154, 0, 5, 2, 172, 3, 61, 28, 42, 180, 0, 94, 190, 162, 0, 16, 42]
abbrev dktX0_next_0 : List UInt8 := dkwX0_next_0 ++ dktX0_next_1
theorem dksX0_next_0 : cX0_next.data.toList.drop 0 = dktX0_next_0 := by decide +kernel
theorem dksX0_next_1 : cX0_next.data.toList.drop 23 = dktX0_next_1 := dk_seg dksX0_next_0 23 rfl rfl
theorem dksX0_next_2 : cX0_next.data.toList.drop 45 = dktX0_next_2 := dk_seg dksX0_next_1 22 rfl rfl
theorem dksX0_next_3 : cX0_next.data.toList.drop 69 = dktX0_next_3 := dk_seg dksX0_next_2 24 rfl rfl
theorem dksX0_next_4 : cX0_next.data.toList.drop 93 = dktX0_next_4 := dk_seg dksX0_next_3 24 rfl rfl
theorem dksX0_next_5 : cX0_next.data.toList.drop 117 = dktX0_next_5 := dk_seg dksX0_next_4 24 rfl rfl
theorem dksX0_next_6 : cX0_next.data.toList.drop 141 = dktX0_next_6 := dk_seg dksX0_next_5 24 rfl rfl
theorem dksX0_next_7 : cX0_next.data.toList.drop 164 = dktX0_next_7 := dk_seg dksX0_next_6 23 rfl rfl
theorem dksX0_next_8 : cX0_next.data.toList.drop 187 = dktX0_next_8 := dk_seg dksX0_next_7 23 rfl rfl
theorem dX0_next_0 : decode cX0_next 0 = .ok (.iload_n 1, 1) := dk_27 (dk_at dksX0_next_0 0 rfl rfl)
theorem dX0_next_1 : decode cX0_next 1 = .ok (.iconst 0, 1) := dk_3 (dk_at dksX0_next_0 1 rfl rfl)
theorem dX0_next_2 : decode cX0_next 2 = .ok (.iconst 1, 1) := dk_4 (dk_at dksX0_next_0 2 rfl rfl)
theorem dX0_next_3 : decode cX0_next 3 = .ok (.invokestatic 26, 3) := dk_184 0 26 (dk_at dksX0_next_0 3 rfl rfl)
theorem dX0_next_6 : decode cX0_next 6 = .ok (.ifCond .ne 5, 3) := dk_154 0 5 (dk_at dksX0_next_0 6 rfl rfl)
theorem dX0_next_9 : decode cX0_next 9 = .ok (.iconst (-1), 1) := dk_2 (dk_at dksX0_next_0 9 rfl rfl)
theorem dX0_next_10 : decode cX0_next 10 = .ok (.ireturn, 1) := dk_172 (dk_at dksX0_next_0 10 rfl rfl)
theorem dX0_next_11 : decode cX0_next 11 = .ok (.iconst 0, 1) := dk_3 (dk_at dksX0_next_0 11 rfl rfl)
theorem dX0_next_12 : decode cX0_next 12 = .ok (.istore_n 2, 1) := dk_61 (dk_at dksX0_next_0 12 rfl rfl)
theorem dX0_next_13 : decode cX0_next 13 = .ok (.iload_n 2, 1) := dk_28 (dk_at dksX0_next_0 13 rfl rfl)
theorem dX0_next_14 : decode cX0_next 14 = .ok (.aload_n 0, 1) := dk_42 (dk_at dksX0_next_0 14 rfl rfl)
theorem dX0_next_15 : decode cX0_next 15 = .ok (.getfield 94, 3) := dk_180 0 94 (dk_at dksX0_next_0 15 rfl rfl)
theorem dX0_next_18 : decode cX0_next 18 = .ok (.arraylength, 1) := dk_190 (dk_at dksX0_next_0 18 rfl rfl)
theorem dX0_next_19 : decode cX0_next 19 = .ok (.if_icmp .ge 16, 3) := dk_162 0 16 (dk_at dksX0_next_0 19 rfl rfl)
theorem dX0_next_22 : decode cX0_next 22 = .ok (.aload_n 0, 1) := dk_42 (dk_at dksX0_next_0 22 rfl rfl)
theorem dX0_next_23 : decode cX0_next 23 = .ok (.getfield 94, 3) := dk_180 0 94 (dk_at dksX0_next_1 0 rfl rfl)
theorem dX0_next_26 : decode cX0_next 26 = .ok (.iload_n 2, 1) := dk_28 (dk_at dksX0_next_1 3 rfl rfl)
theorem dX0_next_27 : decode cX0_next 27 = .ok (.iconst 0, 1) := dk_3 (dk_at dksX0_next_1 4 rfl rfl)
theorem dX0_next_28 : decode cX0_next 28 = .ok (.iastore, 1) := dk_79 (dk_at dksX0_next_1 5 rfl rfl)
theorem dX0_next_29 : decode cX0_next 29 = .ok (.iinc 2 1, 3) := dk_132 2 1 (dk_at dksX0_next_1 6 rfl rfl)
theorem dX0_next_32 : decode cX0_next 32 = .ok (.goto (-19), 3) := dk_167 255 237 (dk_at dksX0_next_1 9 rfl rfl)
theorem dX0_next_35 : decode cX0_next 35 = .ok (.iconst 0, 1) := dk_3 (dk_at dksX0_next_1 12 rfl rfl)
theorem dX0_next_36 : decode cX0_next 36 = .ok (.istore_n 2, 1) := dk_61 (dk_at dksX0_next_1 13 rfl rfl)
theorem dX0_next_37 : decode cX0_next 37 = .ok (.iconst 0, 1) := dk_3 (dk_at dksX0_next_1 14 rfl rfl)
theorem dX0_next_38 : decode cX0_next 38 = .ok (.istore_n 3, 1) := dk_62 (dk_at dksX0_next_1 15 rfl rfl)
theorem dX0_next_39 : decode cX0_next 39 = .ok (.iload_n 3, 1) := dk_29 (dk_at dksX0_next_1 16 rfl rfl)
theorem dX0_next_40 : decode cX0_next 40 = .ok (.iconst 1, 1) := dk_4 (dk_at dksX0_next_1 17 rfl rfl)
theorem dX0_next_41 : decode cX0_next 41 = .ok (.aload_n 0, 1) := dk_42 (dk_at dksX0_next_1 18 rfl rfl)
theorem dX0_next_42 : decode cX0_next 42 = .ok (.getfield 43, 3) := dk_180 0 43 (dk_at dksX0_next_1 19 rfl rfl)
theorem dX0_next_45 : decode cX0_next 45 = .ok (.getfield 362, 3) := dk_180 1 106 (dk_at dksX0_next_2 0 rfl rfl)
theorem dX0_next_48 : decode cX0_next 48 = .ok (.ishl, 1) := dk_120 (dk_at dksX0_next_2 3 rfl rfl)
theorem dX0_next_49 : decode cX0_next 49 = .ok (.if_icmp .ge 61, 3) := dk_162 0 61 (dk_at dksX0_next_2 4 rfl rfl)
theorem dX0_next_52 : decode cX0_next 52 = .ok (.aload_n 0, 1) := dk_42 (dk_at dksX0_next_2 7 rfl rfl)
theorem dX0_next_53 : decode cX0_next 53 = .ok (.iload_n 3, 1) := dk_29 (dk_at dksX0_next_2 8 rfl rfl)
theorem dX0_next_54 : decode cX0_next 54 = .ok (.invokevirtual 386, 3) := dk_182 1 130 (dk_at dksX0_next_2 9 rfl rfl)
theorem dX0_next_57 : decode cX0_next 57 = .ok (.ifCond .ne 6, 3) := dk_154 0 6 (dk_at dksX0_next_2 12 rfl rfl)
theorem dX0_next_60 : decode cX0_next 60 = .ok (.goto 44, 3) := dk_167 0 44 (dk_at dksX0_next_2 15 rfl rfl)
theorem dX0_next_63 : decode cX0_next 63 = .ok (.iinc 2 1, 3) := dk_132 2 1 (dk_at dksX0_next_2 18 rfl rfl)
theorem dX0_next_66 : decode cX0_next 66 = .ok (.iconst 0, 1) := dk_3 (dk_at dksX0_next_2 21 rfl rfl)
theorem dX0_next_67 : decode cX0_next 67 = .ok (.istore 4, 2) := dk_54 4 (dk_at dksX0_next_2 22 rfl rfl)
theorem dX0_next_69 : decode cX0_next 69 = .ok (.iload 4, 2) := dk_21 4 (dk_at dksX0_next_3 0 rfl rfl)
theorem dX0_next_71 : decode cX0_next 71 = .ok (.bipush 6, 2) := dk_16 6 (dk_at dksX0_next_3 2 rfl rfl)
theorem dX0_next_73 : decode cX0_next 73 = .ok (.if_icmp .ge 31, 3) := dk_162 0 31 (dk_at dksX0_next_3 4 rfl rfl)
theorem dX0_next_76 : decode cX0_next 76 = .ok (.aload_n 0, 1) := dk_42 (dk_at dksX0_next_3 7 rfl rfl)
theorem dX0_next_77 : decode cX0_next 77 = .ok (.getfield 94, 3) := dk_180 0 94 (dk_at dksX0_next_3 8 rfl rfl)
theorem dX0_next_80 : decode cX0_next 80 = .ok (.bipush 11, 2) := dk_16 11 (dk_at dksX0_next_3 11 rfl rfl)
theorem dX0_next_82 : decode cX0_next 82 = .ok (.iload 4, 2) := dk_21 4 (dk_at dksX0_next_3 13 rfl rfl)
theorem dX0_next_84 : decode cX0_next 84 = .ok (.imul, 1) := dk_104 (dk_at dksX0_next_3 15 rfl rfl)
theorem dX0_next_85 : decode cX0_next 85 = .ok (.aload_n 0, 1) := dk_42 (dk_at dksX0_next_3 16 rfl rfl)
theorem dX0_next_86 : decode cX0_next 86 = .ok (.iload 4, 2) := dk_21 4 (dk_at dksX0_next_3 17 rfl rfl)
theorem dX0_next_88 : decode cX0_next 88 = .ok (.iload_n 3, 1) := dk_29 (dk_at dksX0_next_3 19 rfl rfl)
theorem dX0_next_89 : decode cX0_next 89 = .ok (.invokevirtual 377, 3) := dk_182 1 121 (dk_at dksX0_next_3 20 rfl rfl)
theorem dX0_next_92 : decode cX0_next 92 = .ok (.iadd, 1) := dk_96 (dk_at dksX0_next_3 23 rfl rfl)
theorem dX0_next_93 : decode cX0_next 93 = .ok (.dup2, 1) := dk_92 (dk_at dksX0_next_4 0 rfl rfl)
theorem dX0_next_94 : decode cX0_next 94 = .ok (.iaload, 1) := dk_46 (dk_at dksX0_next_4 1 rfl rfl)
theorem dX0_next_95 : decode cX0_next 95 = .ok (.iconst 1, 1) := dk_4 (dk_at dksX0_next_4 2 rfl rfl)
theorem dX0_next_96 : decode cX0_next 96 = .ok (.iadd, 1) := dk_96 (dk_at dksX0_next_4 3 rfl rfl)
theorem dX0_next_97 : decode cX0_next 97 = .ok (.iastore, 1) := dk_79 (dk_at dksX0_next_4 4 rfl rfl)
theorem dX0_next_98 : decode cX0_next 98 = .ok (.iinc 4 1, 3) := dk_132 4 1 (dk_at dksX0_next_4 5 rfl rfl)
theorem dX0_next_101 : decode cX0_next 101 = .ok (.goto (-32), 3) := dk_167 255 224 (dk_at dksX0_next_4 8 rfl rfl)
theorem dX0_next_104 : decode cX0_next 104 = .ok (.iinc 3 1, 3) := dk_132 3 1 (dk_at dksX0_next_4 11 rfl rfl)
theorem dX0_next_107 : decode cX0_next 107 = .ok (.goto (-68), 3) := dk_167 255 188 (dk_at dksX0_next_4 14 rfl rfl)
theorem dX0_next_110 : decode cX0_next 110 = .ok (.iconst (-1), 1) := dk_2 (dk_at dksX0_next_4 17 rfl rfl)
theorem dX0_next_111 : decode cX0_next 111 = .ok (.istore_n 3, 1) := dk_62 (dk_at dksX0_next_4 18 rfl rfl)
theorem dX0_next_112 : decode cX0_next 112 = .ok (.ldc_w 327, 3) := dk_19 1 71 (dk_at dksX0_next_4 19 rfl rfl)
theorem dX0_next_115 : decode cX0_next 115 = .ok (.istore 4, 2) := dk_54 4 (dk_at dksX0_next_4 22 rfl rfl)
theorem dX0_next_117 : decode cX0_next 117 = .ok (.iconst 0, 1) := dk_3 (dk_at dksX0_next_5 0 rfl rfl)
theorem dX0_next_118 : decode cX0_next 118 = .ok (.istore 5, 2) := dk_54 5 (dk_at dksX0_next_5 1 rfl rfl)
theorem dX0_next_120 : decode cX0_next 120 = .ok (.iload 5, 2) := dk_21 5 (dk_at dksX0_next_5 3 rfl rfl)
theorem dX0_next_122 : decode cX0_next 122 = .ok (.bipush 6, 2) := dk_16 6 (dk_at dksX0_next_5 5 rfl rfl)
theorem dX0_next_124 : decode cX0_next 124 = .ok (.if_icmp .ge 69, 3) := dk_162 0 69 (dk_at dksX0_next_5 7 rfl rfl)
theorem dX0_next_127 : decode cX0_next 127 = .ok (.iload_n 2, 1) := dk_28 (dk_at dksX0_next_5 10 rfl rfl)
theorem dX0_next_128 : decode cX0_next 128 = .ok (.ifCond .le 65, 3) := dk_158 0 65 (dk_at dksX0_next_5 11 rfl rfl)
theorem dX0_next_131 : decode cX0_next 131 = .ok (.iconst 0, 1) := dk_3 (dk_at dksX0_next_5 14 rfl rfl)
theorem dX0_next_132 : decode cX0_next 132 = .ok (.istore 6, 2) := dk_54 6 (dk_at dksX0_next_5 15 rfl rfl)
theorem dX0_next_134 : decode cX0_next 134 = .ok (.iconst 0, 1) := dk_3 (dk_at dksX0_next_5 17 rfl rfl)
theorem dX0_next_135 : decode cX0_next 135 = .ok (.istore 7, 2) := dk_54 7 (dk_at dksX0_next_5 18 rfl rfl)
theorem dX0_next_137 : decode cX0_next 137 = .ok (.iload 7, 2) := dk_21 7 (dk_at dksX0_next_5 20 rfl rfl)
theorem dX0_next_139 : decode cX0_next 139 = .ok (.bipush 10, 2) := dk_16 10 (dk_at dksX0_next_5 22 rfl rfl)
theorem dX0_next_141 : decode cX0_next 141 = .ok (.if_icmp .gt 29, 3) := dk_163 0 29 (dk_at dksX0_next_6 0 rfl rfl)
theorem dX0_next_144 : decode cX0_next 144 = .ok (.iload 6, 2) := dk_21 6 (dk_at dksX0_next_6 3 rfl rfl)
theorem dX0_next_146 : decode cX0_next 146 = .ok (.aload_n 0, 1) := dk_42 (dk_at dksX0_next_6 5 rfl rfl)
theorem dX0_next_147 : decode cX0_next 147 = .ok (.getfield 94, 3) := dk_180 0 94 (dk_at dksX0_next_6 6 rfl rfl)
theorem dX0_next_150 : decode cX0_next 150 = .ok (.bipush 11, 2) := dk_16 11 (dk_at dksX0_next_6 9 rfl rfl)
theorem dX0_next_152 : decode cX0_next 152 = .ok (.iload 5, 2) := dk_21 5 (dk_at dksX0_next_6 11 rfl rfl)
theorem dX0_next_154 : decode cX0_next 154 = .ok (.imul, 1) := dk_104 (dk_at dksX0_next_6 13 rfl rfl)
theorem dX0_next_155 : decode cX0_next 155 = .ok (.iload 7, 2) := dk_21 7 (dk_at dksX0_next_6 14 rfl rfl)
theorem dX0_next_157 : decode cX0_next 157 = .ok (.iadd, 1) := dk_96 (dk_at dksX0_next_6 16 rfl rfl)
theorem dX0_next_158 : decode cX0_next 158 = .ok (.iaload, 1) := dk_46 (dk_at dksX0_next_6 17 rfl rfl)
theorem dX0_next_159 : decode cX0_next 159 = .ok (.invokestatic 296, 3) := dk_184 1 40 (dk_at dksX0_next_6 18 rfl rfl)
theorem dX0_next_162 : decode cX0_next 162 = .ok (.istore 6, 2) := dk_54 6 (dk_at dksX0_next_6 21 rfl rfl)
theorem dX0_next_164 : decode cX0_next 164 = .ok (.iinc 7 1, 3) := dk_132 7 1 (dk_at dksX0_next_7 0 rfl rfl)
theorem dX0_next_167 : decode cX0_next 167 = .ok (.goto (-30), 3) := dk_167 255 226 (dk_at dksX0_next_7 3 rfl rfl)
theorem dX0_next_170 : decode cX0_next 170 = .ok (.iload 6, 2) := dk_21 6 (dk_at dksX0_next_7 6 rfl rfl)
theorem dX0_next_172 : decode cX0_next 172 = .ok (.iload 4, 2) := dk_21 4 (dk_at dksX0_next_7 8 rfl rfl)
theorem dX0_next_174 : decode cX0_next 174 = .ok (.if_icmp .lt 6, 3) := dk_161 0 6 (dk_at dksX0_next_7 10 rfl rfl)
theorem dX0_next_177 : decode cX0_next 177 = .ok (.goto 10, 3) := dk_167 0 10 (dk_at dksX0_next_7 13 rfl rfl)
theorem dX0_next_180 : decode cX0_next 180 = .ok (.iload 6, 2) := dk_21 6 (dk_at dksX0_next_7 16 rfl rfl)
theorem dX0_next_182 : decode cX0_next 182 = .ok (.istore 4, 2) := dk_54 4 (dk_at dksX0_next_7 18 rfl rfl)
theorem dX0_next_184 : decode cX0_next 184 = .ok (.iload 5, 2) := dk_21 5 (dk_at dksX0_next_7 20 rfl rfl)
theorem dX0_next_186 : decode cX0_next 186 = .ok (.istore_n 3, 1) := dk_62 (dk_at dksX0_next_7 22 rfl rfl)
theorem dX0_next_187 : decode cX0_next 187 = .ok (.iinc 5 1, 3) := dk_132 5 1 (dk_at dksX0_next_8 0 rfl rfl)
theorem dX0_next_190 : decode cX0_next 190 = .ok (.goto (-70), 3) := dk_167 255 186 (dk_at dksX0_next_8 3 rfl rfl)
theorem dX0_next_193 : decode cX0_next 193 = .ok (.iload_n 3, 1) := dk_29 (dk_at dksX0_next_8 6 rfl rfl)
theorem dX0_next_194 : decode cX0_next 194 = .ok (.iconst (-1), 1) := dk_2 (dk_at dksX0_next_8 7 rfl rfl)
theorem dX0_next_195 : decode cX0_next 195 = .ok (.if_icmp .eq 7, 3) := dk_159 0 7 (dk_at dksX0_next_8 8 rfl rfl)
theorem dX0_next_198 : decode cX0_next 198 = .ok (.iload_n 1, 1) := dk_27 (dk_at dksX0_next_8 11 rfl rfl)
theorem dX0_next_199 : decode cX0_next 199 = .ok (.ifCond .ne 7, 3) := dk_154 0 7 (dk_at dksX0_next_8 12 rfl rfl)
theorem dX0_next_202 : decode cX0_next 202 = .ok (.iload_n 3, 1) := dk_29 (dk_at dksX0_next_8 15 rfl rfl)
theorem dX0_next_203 : decode cX0_next 203 = .ok (.goto 5, 3) := dk_167 0 5 (dk_at dksX0_next_8 16 rfl rfl)
theorem dX0_next_206 : decode cX0_next 206 = .ok (.iload 4, 2) := dk_21 4 (dk_at dksX0_next_8 19 rfl rfl)
theorem dX0_next_208 : decode cX0_next 208 = .ok (.ireturn, 1) := dk_172 (dk_at dksX0_next_8 21 rfl rfl)
abbrev cX0_orders : ByteArray := prog_1_method_78_code
def yX0_orders : MethodName := ⟨RX0, "orders", "()I"⟩
def dkwX0_orders_10 : List UInt8 := [167, 255, 168, 132, 6, 1, 167, 255, 133, 42, 21, 4, 182, 0, 109, 172]
abbrev dktX0_orders_10 : List UInt8 := dkwX0_orders_10 ++ []
def dkwX0_orders_9 : List UInt8 := [180, 1, 164, 6, 160, 0, 8, 21, 9, 167, 0, 5, 21, 5, 54, 5, 132, 4, 1, 132, 8, 1]
abbrev dktX0_orders_9 : List UInt8 := dkwX0_orders_9 ++ dktX0_orders_10
def dkwX0_orders_8 : List UInt8 := [156, 0, 21, 42, 29, 182, 1, 161, 42, 21, 6, 181, 0, 78, 42, 16, 253, 182, 0, 115, 172, 25, 7]
abbrev dktX0_orders_8 : List UInt8 := dkwX0_orders_8 ++ dktX0_orders_9
def dkwX0_orders_7 : List UInt8 := [180, 0, 84, 182, 1, 153, 154, 0, 6, 167, 0, 55, 42, 25, 7, 182, 1, 157, 54, 9, 21, 9]
abbrev dktX0_orders_7 : List UInt8 := dkwX0_orders_7 ++ dktX0_orders_8
def dkwX0_orders_6 : List UInt8 := [54, 8, 21, 8, 25, 7, 180, 1, 147, 162, 0, 84, 42, 21, 4, 21, 5, 182, 1, 150, 25, 7, 42]
abbrev dktX0_orders_6 : List UInt8 := dkwX0_orders_6 ++ dktX0_orders_7
def dkwX0_orders_5 : List UInt8 := [180, 1, 142, 182, 0, 213, 162, 0, 117, 44, 180, 1, 142, 21, 6, 182, 1, 2, 192, 1, 145, 58, 7, 3]
abbrev dktX0_orders_5 : List UInt8 := dkwX0_orders_5 ++ dktX0_orders_6
def dkwX0_orders_4 : List UInt8 := [16, 16, 184, 1, 136, 42, 180, 0, 106, 62, 3, 54, 4, 2, 54, 5, 3, 54, 6, 21, 6, 44]
abbrev dktX0_orders_4 : List UInt8 := dkwX0_orders_4 ++ dktX0_orders_5
def dkwX0_orders_3 : List UInt8 := [180, 0, 53, 29, 50, 182, 1, 42, 132, 3, 1, 167, 255, 230, 42, 180, 0, 60, 3, 42, 180, 0, 63, 3]
abbrev dktX0_orders_3 : List UInt8 := dkwX0_orders_3 ++ dktX0_orders_4
def dkwX0_orders_2 : List UInt8 := [182, 0, 132, 182, 1, 42, 3, 62, 29, 42, 180, 0, 106, 162, 0, 24, 42, 180, 0, 57, 29, 50, 42]
abbrev dktX0_orders_2 : List UInt8 := dkwX0_orders_2 ++ dktX0_orders_3
def dkwX0_orders_1 : List UInt8 := [183, 1, 135, 77, 42, 44, 182, 0, 224, 154, 0, 10, 42, 16, 250, 182, 0, 115, 172, 42, 180, 0, 67, 42]
abbrev dktX0_orders_1 : List UInt8 := dkwX0_orders_1 ++ dktX0_orders_2
def dkwX0_orders_0 : List UInt8 := [42, 180, 0, 189, 60, 42, 3, 181, 0, 189, 42, 2, 181, 0, 78, 187, 1, 133, 89, 42, 180, 0, 71, 27]
abbrev dktX0_orders_0 : List UInt8 := dkwX0_orders_0 ++ dktX0_orders_1
theorem dksX0_orders_0 : cX0_orders.data.toList.drop 0 = dktX0_orders_0 := by decide +kernel
theorem dksX0_orders_1 : cX0_orders.data.toList.drop 24 = dktX0_orders_1 := dk_seg dksX0_orders_0 24 rfl rfl
theorem dksX0_orders_2 : cX0_orders.data.toList.drop 48 = dktX0_orders_2 := dk_seg dksX0_orders_1 24 rfl rfl
theorem dksX0_orders_3 : cX0_orders.data.toList.drop 71 = dktX0_orders_3 := dk_seg dksX0_orders_2 23 rfl rfl
theorem dksX0_orders_4 : cX0_orders.data.toList.drop 95 = dktX0_orders_4 := dk_seg dksX0_orders_3 24 rfl rfl
theorem dksX0_orders_5 : cX0_orders.data.toList.drop 117 = dktX0_orders_5 := dk_seg dksX0_orders_4 22 rfl rfl
theorem dksX0_orders_6 : cX0_orders.data.toList.drop 141 = dktX0_orders_6 := dk_seg dksX0_orders_5 24 rfl rfl
theorem dksX0_orders_7 : cX0_orders.data.toList.drop 164 = dktX0_orders_7 := dk_seg dksX0_orders_6 23 rfl rfl
theorem dksX0_orders_8 : cX0_orders.data.toList.drop 186 = dktX0_orders_8 := dk_seg dksX0_orders_7 22 rfl rfl
theorem dksX0_orders_9 : cX0_orders.data.toList.drop 209 = dktX0_orders_9 := dk_seg dksX0_orders_8 23 rfl rfl
theorem dksX0_orders_10 : cX0_orders.data.toList.drop 231 = dktX0_orders_10 := dk_seg dksX0_orders_9 22 rfl rfl
theorem dX0_orders_0 : decode cX0_orders 0 = .ok (.aload_n 0, 1) := dk_42 (dk_at dksX0_orders_0 0 rfl rfl)
theorem dX0_orders_1 : decode cX0_orders 1 = .ok (.getfield 189, 3) := dk_180 0 189 (dk_at dksX0_orders_0 1 rfl rfl)
theorem dX0_orders_4 : decode cX0_orders 4 = .ok (.istore_n 1, 1) := dk_60 (dk_at dksX0_orders_0 4 rfl rfl)
theorem dX0_orders_5 : decode cX0_orders 5 = .ok (.aload_n 0, 1) := dk_42 (dk_at dksX0_orders_0 5 rfl rfl)
theorem dX0_orders_6 : decode cX0_orders 6 = .ok (.iconst 0, 1) := dk_3 (dk_at dksX0_orders_0 6 rfl rfl)
theorem dX0_orders_7 : decode cX0_orders 7 = .ok (.putfield 189, 3) := dk_181 0 189 (dk_at dksX0_orders_0 7 rfl rfl)
theorem dX0_orders_10 : decode cX0_orders 10 = .ok (.aload_n 0, 1) := dk_42 (dk_at dksX0_orders_0 10 rfl rfl)
theorem dX0_orders_11 : decode cX0_orders 11 = .ok (.iconst (-1), 1) := dk_2 (dk_at dksX0_orders_0 11 rfl rfl)
theorem dX0_orders_12 : decode cX0_orders 12 = .ok (.putfield 78, 3) := dk_181 0 78 (dk_at dksX0_orders_0 12 rfl rfl)
theorem dX0_orders_15 : decode cX0_orders 15 = .ok (.new 389, 3) := dk_187 1 133 (dk_at dksX0_orders_0 15 rfl rfl)
theorem dX0_orders_18 : decode cX0_orders 18 = .ok (.dup, 1) := dk_89 (dk_at dksX0_orders_0 18 rfl rfl)
theorem dX0_orders_19 : decode cX0_orders 19 = .ok (.aload_n 0, 1) := dk_42 (dk_at dksX0_orders_0 19 rfl rfl)
theorem dX0_orders_20 : decode cX0_orders 20 = .ok (.getfield 71, 3) := dk_180 0 71 (dk_at dksX0_orders_0 20 rfl rfl)
theorem dX0_orders_23 : decode cX0_orders 23 = .ok (.iload_n 1, 1) := dk_27 (dk_at dksX0_orders_0 23 rfl rfl)
theorem dX0_orders_24 : decode cX0_orders 24 = .ok (.invokespecial 391, 3) := dk_183 1 135 (dk_at dksX0_orders_1 0 rfl rfl)
theorem dX0_orders_27 : decode cX0_orders 27 = .ok (.astore_n 2, 1) := dk_77 (dk_at dksX0_orders_1 3 rfl rfl)
theorem dX0_orders_28 : decode cX0_orders 28 = .ok (.aload_n 0, 1) := dk_42 (dk_at dksX0_orders_1 4 rfl rfl)
theorem dX0_orders_29 : decode cX0_orders 29 = .ok (.aload_n 2, 1) := dk_44 (dk_at dksX0_orders_1 5 rfl rfl)
theorem dX0_orders_30 : decode cX0_orders 30 = .ok (.invokevirtual 224, 3) := dk_182 0 224 (dk_at dksX0_orders_1 6 rfl rfl)
theorem dX0_orders_33 : decode cX0_orders 33 = .ok (.ifCond .ne 10, 3) := dk_154 0 10 (dk_at dksX0_orders_1 9 rfl rfl)
theorem dX0_orders_36 : decode cX0_orders 36 = .ok (.aload_n 0, 1) := dk_42 (dk_at dksX0_orders_1 12 rfl rfl)
theorem dX0_orders_37 : decode cX0_orders 37 = .ok (.bipush (-6), 2) := dk_16 250 (dk_at dksX0_orders_1 13 rfl rfl)
theorem dX0_orders_39 : decode cX0_orders 39 = .ok (.invokevirtual 115, 3) := dk_182 0 115 (dk_at dksX0_orders_1 15 rfl rfl)
theorem dX0_orders_42 : decode cX0_orders 42 = .ok (.ireturn, 1) := dk_172 (dk_at dksX0_orders_1 18 rfl rfl)
theorem dX0_orders_43 : decode cX0_orders 43 = .ok (.aload_n 0, 1) := dk_42 (dk_at dksX0_orders_1 19 rfl rfl)
theorem dX0_orders_44 : decode cX0_orders 44 = .ok (.getfield 67, 3) := dk_180 0 67 (dk_at dksX0_orders_1 20 rfl rfl)
theorem dX0_orders_47 : decode cX0_orders 47 = .ok (.aload_n 0, 1) := dk_42 (dk_at dksX0_orders_1 23 rfl rfl)
theorem dX0_orders_48 : decode cX0_orders 48 = .ok (.invokevirtual 132, 3) := dk_182 0 132 (dk_at dksX0_orders_2 0 rfl rfl)
theorem dX0_orders_51 : decode cX0_orders 51 = .ok (.invokevirtual 298, 3) := dk_182 1 42 (dk_at dksX0_orders_2 3 rfl rfl)
theorem dX0_orders_54 : decode cX0_orders 54 = .ok (.iconst 0, 1) := dk_3 (dk_at dksX0_orders_2 6 rfl rfl)
theorem dX0_orders_55 : decode cX0_orders 55 = .ok (.istore_n 3, 1) := dk_62 (dk_at dksX0_orders_2 7 rfl rfl)
theorem dX0_orders_56 : decode cX0_orders 56 = .ok (.iload_n 3, 1) := dk_29 (dk_at dksX0_orders_2 8 rfl rfl)
theorem dX0_orders_57 : decode cX0_orders 57 = .ok (.aload_n 0, 1) := dk_42 (dk_at dksX0_orders_2 9 rfl rfl)
theorem dX0_orders_58 : decode cX0_orders 58 = .ok (.getfield 106, 3) := dk_180 0 106 (dk_at dksX0_orders_2 10 rfl rfl)
theorem dX0_orders_61 : decode cX0_orders 61 = .ok (.if_icmp .ge 24, 3) := dk_162 0 24 (dk_at dksX0_orders_2 13 rfl rfl)
theorem dX0_orders_64 : decode cX0_orders 64 = .ok (.aload_n 0, 1) := dk_42 (dk_at dksX0_orders_2 16 rfl rfl)
theorem dX0_orders_65 : decode cX0_orders 65 = .ok (.getfield 57, 3) := dk_180 0 57 (dk_at dksX0_orders_2 17 rfl rfl)
theorem dX0_orders_68 : decode cX0_orders 68 = .ok (.iload_n 3, 1) := dk_29 (dk_at dksX0_orders_2 20 rfl rfl)
theorem dX0_orders_69 : decode cX0_orders 69 = .ok (.aaload, 1) := dk_50 (dk_at dksX0_orders_2 21 rfl rfl)
theorem dX0_orders_70 : decode cX0_orders 70 = .ok (.aload_n 0, 1) := dk_42 (dk_at dksX0_orders_2 22 rfl rfl)
theorem dX0_orders_71 : decode cX0_orders 71 = .ok (.getfield 53, 3) := dk_180 0 53 (dk_at dksX0_orders_3 0 rfl rfl)
theorem dX0_orders_74 : decode cX0_orders 74 = .ok (.iload_n 3, 1) := dk_29 (dk_at dksX0_orders_3 3 rfl rfl)
theorem dX0_orders_75 : decode cX0_orders 75 = .ok (.aaload, 1) := dk_50 (dk_at dksX0_orders_3 4 rfl rfl)
theorem dX0_orders_76 : decode cX0_orders 76 = .ok (.invokevirtual 298, 3) := dk_182 1 42 (dk_at dksX0_orders_3 5 rfl rfl)
theorem dX0_orders_79 : decode cX0_orders 79 = .ok (.iinc 3 1, 3) := dk_132 3 1 (dk_at dksX0_orders_3 8 rfl rfl)
theorem dX0_orders_82 : decode cX0_orders 82 = .ok (.goto (-26), 3) := dk_167 255 230 (dk_at dksX0_orders_3 11 rfl rfl)
theorem dX0_orders_85 : decode cX0_orders 85 = .ok (.aload_n 0, 1) := dk_42 (dk_at dksX0_orders_3 14 rfl rfl)
theorem dX0_orders_86 : decode cX0_orders 86 = .ok (.getfield 60, 3) := dk_180 0 60 (dk_at dksX0_orders_3 15 rfl rfl)
theorem dX0_orders_89 : decode cX0_orders 89 = .ok (.iconst 0, 1) := dk_3 (dk_at dksX0_orders_3 18 rfl rfl)
theorem dX0_orders_90 : decode cX0_orders 90 = .ok (.aload_n 0, 1) := dk_42 (dk_at dksX0_orders_3 19 rfl rfl)
theorem dX0_orders_91 : decode cX0_orders 91 = .ok (.getfield 63, 3) := dk_180 0 63 (dk_at dksX0_orders_3 20 rfl rfl)
theorem dX0_orders_94 : decode cX0_orders 94 = .ok (.iconst 0, 1) := dk_3 (dk_at dksX0_orders_3 23 rfl rfl)
theorem dX0_orders_95 : decode cX0_orders 95 = .ok (.bipush 16, 2) := dk_16 16 (dk_at dksX0_orders_4 0 rfl rfl)
theorem dX0_orders_97 : decode cX0_orders 97 = .ok (.invokestatic 392, 3) := dk_184 1 136 (dk_at dksX0_orders_4 2 rfl rfl)
theorem dX0_orders_100 : decode cX0_orders 100 = .ok (.aload_n 0, 1) := dk_42 (dk_at dksX0_orders_4 5 rfl rfl)
theorem dX0_orders_101 : decode cX0_orders 101 = .ok (.getfield 106, 3) := dk_180 0 106 (dk_at dksX0_orders_4 6 rfl rfl)
theorem dX0_orders_104 : decode cX0_orders 104 = .ok (.istore_n 3, 1) := dk_62 (dk_at dksX0_orders_4 9 rfl rfl)
theorem dX0_orders_105 : decode cX0_orders 105 = .ok (.iconst 0, 1) := dk_3 (dk_at dksX0_orders_4 10 rfl rfl)
theorem dX0_orders_106 : decode cX0_orders 106 = .ok (.istore 4, 2) := dk_54 4 (dk_at dksX0_orders_4 11 rfl rfl)
theorem dX0_orders_108 : decode cX0_orders 108 = .ok (.iconst (-1), 1) := dk_2 (dk_at dksX0_orders_4 13 rfl rfl)
theorem dX0_orders_109 : decode cX0_orders 109 = .ok (.istore 5, 2) := dk_54 5 (dk_at dksX0_orders_4 14 rfl rfl)
theorem dX0_orders_111 : decode cX0_orders 111 = .ok (.iconst 0, 1) := dk_3 (dk_at dksX0_orders_4 16 rfl rfl)
theorem dX0_orders_112 : decode cX0_orders 112 = .ok (.istore 6, 2) := dk_54 6 (dk_at dksX0_orders_4 17 rfl rfl)
theorem dX0_orders_114 : decode cX0_orders 114 = .ok (.iload 6, 2) := dk_21 6 (dk_at dksX0_orders_4 19 rfl rfl)
theorem dX0_orders_116 : decode cX0_orders 116 = .ok (.aload_n 2, 1) := dk_44 (dk_at dksX0_orders_4 21 rfl rfl)
theorem dX0_orders_117 : decode cX0_orders 117 = .ok (.getfield 398, 3) := dk_180 1 142 (dk_at dksX0_orders_5 0 rfl rfl)
theorem dX0_orders_120 : decode cX0_orders 120 = .ok (.invokevirtual 213, 3) := dk_182 0 213 (dk_at dksX0_orders_5 3 rfl rfl)
theorem dX0_orders_123 : decode cX0_orders 123 = .ok (.if_icmp .ge 117, 3) := dk_162 0 117 (dk_at dksX0_orders_5 6 rfl rfl)
theorem dX0_orders_126 : decode cX0_orders 126 = .ok (.aload_n 2, 1) := dk_44 (dk_at dksX0_orders_5 9 rfl rfl)
theorem dX0_orders_127 : decode cX0_orders 127 = .ok (.getfield 398, 3) := dk_180 1 142 (dk_at dksX0_orders_5 10 rfl rfl)
theorem dX0_orders_130 : decode cX0_orders 130 = .ok (.iload 6, 2) := dk_21 6 (dk_at dksX0_orders_5 13 rfl rfl)
theorem dX0_orders_132 : decode cX0_orders 132 = .ok (.invokevirtual 258, 3) := dk_182 1 2 (dk_at dksX0_orders_5 15 rfl rfl)
theorem dX0_orders_135 : decode cX0_orders 135 = .ok (.checkcast 401, 3) := dk_192 1 145 (dk_at dksX0_orders_5 18 rfl rfl)
theorem dX0_orders_138 : decode cX0_orders 138 = .ok (.astore 7, 2) := dk_58 7 (dk_at dksX0_orders_5 21 rfl rfl)
theorem dX0_orders_140 : decode cX0_orders 140 = .ok (.iconst 0, 1) := dk_3 (dk_at dksX0_orders_5 23 rfl rfl)
theorem dX0_orders_141 : decode cX0_orders 141 = .ok (.istore 8, 2) := dk_54 8 (dk_at dksX0_orders_6 0 rfl rfl)
theorem dX0_orders_143 : decode cX0_orders 143 = .ok (.iload 8, 2) := dk_21 8 (dk_at dksX0_orders_6 2 rfl rfl)
theorem dX0_orders_145 : decode cX0_orders 145 = .ok (.aload 7, 2) := dk_25 7 (dk_at dksX0_orders_6 4 rfl rfl)
theorem dX0_orders_147 : decode cX0_orders 147 = .ok (.getfield 403, 3) := dk_180 1 147 (dk_at dksX0_orders_6 6 rfl rfl)
theorem dX0_orders_150 : decode cX0_orders 150 = .ok (.if_icmp .ge 84, 3) := dk_162 0 84 (dk_at dksX0_orders_6 9 rfl rfl)
theorem dX0_orders_153 : decode cX0_orders 153 = .ok (.aload_n 0, 1) := dk_42 (dk_at dksX0_orders_6 12 rfl rfl)
theorem dX0_orders_154 : decode cX0_orders 154 = .ok (.iload 4, 2) := dk_21 4 (dk_at dksX0_orders_6 13 rfl rfl)
theorem dX0_orders_156 : decode cX0_orders 156 = .ok (.iload 5, 2) := dk_21 5 (dk_at dksX0_orders_6 15 rfl rfl)
theorem dX0_orders_158 : decode cX0_orders 158 = .ok (.invokevirtual 406, 3) := dk_182 1 150 (dk_at dksX0_orders_6 17 rfl rfl)
theorem dX0_orders_161 : decode cX0_orders 161 = .ok (.aload 7, 2) := dk_25 7 (dk_at dksX0_orders_6 20 rfl rfl)
theorem dX0_orders_163 : decode cX0_orders 163 = .ok (.aload_n 0, 1) := dk_42 (dk_at dksX0_orders_6 22 rfl rfl)
theorem dX0_orders_164 : decode cX0_orders 164 = .ok (.getfield 84, 3) := dk_180 0 84 (dk_at dksX0_orders_7 0 rfl rfl)
theorem dX0_orders_167 : decode cX0_orders 167 = .ok (.invokevirtual 409, 3) := dk_182 1 153 (dk_at dksX0_orders_7 3 rfl rfl)
theorem dX0_orders_170 : decode cX0_orders 170 = .ok (.ifCond .ne 6, 3) := dk_154 0 6 (dk_at dksX0_orders_7 6 rfl rfl)
theorem dX0_orders_173 : decode cX0_orders 173 = .ok (.goto 55, 3) := dk_167 0 55 (dk_at dksX0_orders_7 9 rfl rfl)
theorem dX0_orders_176 : decode cX0_orders 176 = .ok (.aload_n 0, 1) := dk_42 (dk_at dksX0_orders_7 12 rfl rfl)
theorem dX0_orders_177 : decode cX0_orders 177 = .ok (.aload 7, 2) := dk_25 7 (dk_at dksX0_orders_7 13 rfl rfl)
theorem dX0_orders_179 : decode cX0_orders 179 = .ok (.invokevirtual 413, 3) := dk_182 1 157 (dk_at dksX0_orders_7 15 rfl rfl)
theorem dX0_orders_182 : decode cX0_orders 182 = .ok (.istore 9, 2) := dk_54 9 (dk_at dksX0_orders_7 18 rfl rfl)
theorem dX0_orders_184 : decode cX0_orders 184 = .ok (.iload 9, 2) := dk_21 9 (dk_at dksX0_orders_7 20 rfl rfl)
theorem dX0_orders_186 : decode cX0_orders 186 = .ok (.ifCond .ge 21, 3) := dk_156 0 21 (dk_at dksX0_orders_8 0 rfl rfl)
theorem dX0_orders_189 : decode cX0_orders 189 = .ok (.aload_n 0, 1) := dk_42 (dk_at dksX0_orders_8 3 rfl rfl)
theorem dX0_orders_190 : decode cX0_orders 190 = .ok (.iload_n 3, 1) := dk_29 (dk_at dksX0_orders_8 4 rfl rfl)
theorem dX0_orders_191 : decode cX0_orders 191 = .ok (.invokevirtual 417, 3) := dk_182 1 161 (dk_at dksX0_orders_8 5 rfl rfl)
theorem dX0_orders_194 : decode cX0_orders 194 = .ok (.aload_n 0, 1) := dk_42 (dk_at dksX0_orders_8 8 rfl rfl)
theorem dX0_orders_195 : decode cX0_orders 195 = .ok (.iload 6, 2) := dk_21 6 (dk_at dksX0_orders_8 9 rfl rfl)
theorem dX0_orders_197 : decode cX0_orders 197 = .ok (.putfield 78, 3) := dk_181 0 78 (dk_at dksX0_orders_8 11 rfl rfl)
theorem dX0_orders_200 : decode cX0_orders 200 = .ok (.aload_n 0, 1) := dk_42 (dk_at dksX0_orders_8 14 rfl rfl)
theorem dX0_orders_201 : decode cX0_orders 201 = .ok (.bipush (-3), 2) := dk_16 253 (dk_at dksX0_orders_8 15 rfl rfl)
theorem dX0_orders_203 : decode cX0_orders 203 = .ok (.invokevirtual 115, 3) := dk_182 0 115 (dk_at dksX0_orders_8 17 rfl rfl)
theorem dX0_orders_206 : decode cX0_orders 206 = .ok (.ireturn, 1) := dk_172 (dk_at dksX0_orders_8 20 rfl rfl)
theorem dX0_orders_207 : decode cX0_orders 207 = .ok (.aload 7, 2) := dk_25 7 (dk_at dksX0_orders_8 21 rfl rfl)
theorem dX0_orders_209 : decode cX0_orders 209 = .ok (.getfield 420, 3) := dk_180 1 164 (dk_at dksX0_orders_9 0 rfl rfl)
theorem dX0_orders_212 : decode cX0_orders 212 = .ok (.iconst 3, 1) := dk_6 (dk_at dksX0_orders_9 3 rfl rfl)
theorem dX0_orders_213 : decode cX0_orders 213 = .ok (.if_icmp .ne 8, 3) := dk_160 0 8 (dk_at dksX0_orders_9 4 rfl rfl)
theorem dX0_orders_216 : decode cX0_orders 216 = .ok (.iload 9, 2) := dk_21 9 (dk_at dksX0_orders_9 7 rfl rfl)
theorem dX0_orders_218 : decode cX0_orders 218 = .ok (.goto 5, 3) := dk_167 0 5 (dk_at dksX0_orders_9 9 rfl rfl)
theorem dX0_orders_221 : decode cX0_orders 221 = .ok (.iload 5, 2) := dk_21 5 (dk_at dksX0_orders_9 12 rfl rfl)
theorem dX0_orders_223 : decode cX0_orders 223 = .ok (.istore 5, 2) := dk_54 5 (dk_at dksX0_orders_9 14 rfl rfl)
theorem dX0_orders_225 : decode cX0_orders 225 = .ok (.iinc 4 1, 3) := dk_132 4 1 (dk_at dksX0_orders_9 16 rfl rfl)
theorem dX0_orders_228 : decode cX0_orders 228 = .ok (.iinc 8 1, 3) := dk_132 8 1 (dk_at dksX0_orders_9 19 rfl rfl)
theorem dX0_orders_231 : decode cX0_orders 231 = .ok (.goto (-88), 3) := dk_167 255 168 (dk_at dksX0_orders_10 0 rfl rfl)
theorem dX0_orders_234 : decode cX0_orders 234 = .ok (.iinc 6 1, 3) := dk_132 6 1 (dk_at dksX0_orders_10 3 rfl rfl)
theorem dX0_orders_237 : decode cX0_orders 237 = .ok (.goto (-123), 3) := dk_167 255 133 (dk_at dksX0_orders_10 6 rfl rfl)
theorem dX0_orders_240 : decode cX0_orders 240 = .ok (.aload_n 0, 1) := dk_42 (dk_at dksX0_orders_10 9 rfl rfl)
theorem dX0_orders_241 : decode cX0_orders 241 = .ok (.iload 4, 2) := dk_21 4 (dk_at dksX0_orders_10 10 rfl rfl)
theorem dX0_orders_243 : decode cX0_orders 243 = .ok (.invokevirtual 109, 3) := dk_182 0 109 (dk_at dksX0_orders_10 12 rfl rfl)
theorem dX0_orders_246 : decode cX0_orders 246 = .ok (.ireturn, 1) := dk_172 (dk_at dksX0_orders_10 15 rfl rfl)
abbrev cX0_tellsOrder : ByteArray := prog_1_method_81_code
def yX0_tellsOrder : MethodName := ⟨RX0, "tellsOrder", "(II)V"⟩
def dkwX0_tellsOrder_6 : List UInt8 := [167, 255, 231, 177]
abbrev dktX0_tellsOrder_6 : List UInt8 := dkwX0_tellsOrder_6 ++ []
def dkwX0_tellsOrder_5 : List UInt8 := [162, 0, 25, 25, 4, 16, 15, 21, 5, 96, 45, 180, 0, 177, 21, 5, 46, 133, 80, 132, 5, 1]
abbrev dktX0_tellsOrder_5 : List UInt8 := dkwX0_tellsOrder_5 ++ dktX0_tellsOrder_6
def dkwX0_tellsOrder_4 : List UInt8 := [21, 5, 46, 133, 167, 0, 6, 20, 1, 75, 80, 132, 5, 1, 167, 255, 185, 3, 54, 5, 21, 5, 7]
abbrev dktX0_tellsOrder_4 : List UInt8 := dkwX0_tellsOrder_4 ++ dktX0_tellsOrder_5
def dkwX0_tellsOrder_3 : List UInt8 := [20, 1, 75, 80, 25, 4, 16, 9, 21, 5, 96, 42, 21, 5, 182, 0, 152, 153, 0, 14, 45, 180, 0, 138]
abbrev dktX0_tellsOrder_3 : List UInt8 := dkwX0_tellsOrder_3 ++ dktX0_tellsOrder_4
def dkwX0_tellsOrder_2 : List UInt8 := [6, 21, 5, 96, 42, 21, 5, 182, 0, 152, 153, 0, 14, 45, 180, 0, 135, 21, 5, 46, 133, 167, 0, 6]
abbrev dktX0_tellsOrder_2 : List UInt8 := dkwX0_tellsOrder_2 ++ dktX0_tellsOrder_3
def dkwX0_tellsOrder_1 : List UInt8 := [25, 4, 4, 27, 133, 80, 25, 4, 5, 28, 133, 80, 3, 54, 5, 21, 5, 16, 6, 162, 0, 70, 25, 4]
abbrev dktX0_tellsOrder_1 : List UInt8 := dkwX0_tellsOrder_1 ++ dktX0_tellsOrder_2
def dkwX0_tellsOrder_0 : List UInt8 := [42, 182, 0, 132, 78, 42, 180, 0, 84, 180, 0, 254, 58, 4, 25, 4, 3, 45, 180, 0, 180, 133, 80]
abbrev dktX0_tellsOrder_0 : List UInt8 := dkwX0_tellsOrder_0 ++ dktX0_tellsOrder_1
theorem dksX0_tellsOrder_0 : cX0_tellsOrder.data.toList.drop 0 = dktX0_tellsOrder_0 := by decide +kernel
theorem dksX0_tellsOrder_1 : cX0_tellsOrder.data.toList.drop 23 = dktX0_tellsOrder_1 := dk_seg dksX0_tellsOrder_0 23 rfl rfl
theorem dksX0_tellsOrder_2 : cX0_tellsOrder.data.toList.drop 47 = dktX0_tellsOrder_2 := dk_seg dksX0_tellsOrder_1 24 rfl rfl
theorem dksX0_tellsOrder_3 : cX0_tellsOrder.data.toList.drop 71 = dktX0_tellsOrder_3 := dk_seg dksX0_tellsOrder_2 24 rfl rfl
theorem dksX0_tellsOrder_4 : cX0_tellsOrder.data.toList.drop 95 = dktX0_tellsOrder_4 := dk_seg dksX0_tellsOrder_3 24 rfl rfl
theorem dksX0_tellsOrder_5 : cX0_tellsOrder.data.toList.drop 118 = dktX0_tellsOrder_5 := dk_seg dksX0_tellsOrder_4 23 rfl rfl
theorem dksX0_tellsOrder_6 : cX0_tellsOrder.data.toList.drop 140 = dktX0_tellsOrder_6 := dk_seg dksX0_tellsOrder_5 22 rfl rfl
theorem dX0_tellsOrder_0 : decode cX0_tellsOrder 0 = .ok (.aload_n 0, 1) := dk_42 (dk_at dksX0_tellsOrder_0 0 rfl rfl)
theorem dX0_tellsOrder_1 : decode cX0_tellsOrder 1 = .ok (.invokevirtual 132, 3) := dk_182 0 132 (dk_at dksX0_tellsOrder_0 1 rfl rfl)
theorem dX0_tellsOrder_4 : decode cX0_tellsOrder 4 = .ok (.astore_n 3, 1) := dk_78 (dk_at dksX0_tellsOrder_0 4 rfl rfl)
theorem dX0_tellsOrder_5 : decode cX0_tellsOrder 5 = .ok (.aload_n 0, 1) := dk_42 (dk_at dksX0_tellsOrder_0 5 rfl rfl)
theorem dX0_tellsOrder_6 : decode cX0_tellsOrder 6 = .ok (.getfield 84, 3) := dk_180 0 84 (dk_at dksX0_tellsOrder_0 6 rfl rfl)
theorem dX0_tellsOrder_9 : decode cX0_tellsOrder 9 = .ok (.getfield 254, 3) := dk_180 0 254 (dk_at dksX0_tellsOrder_0 9 rfl rfl)
theorem dX0_tellsOrder_12 : decode cX0_tellsOrder 12 = .ok (.astore 4, 2) := dk_58 4 (dk_at dksX0_tellsOrder_0 12 rfl rfl)
theorem dX0_tellsOrder_14 : decode cX0_tellsOrder 14 = .ok (.aload 4, 2) := dk_25 4 (dk_at dksX0_tellsOrder_0 14 rfl rfl)
theorem dX0_tellsOrder_16 : decode cX0_tellsOrder 16 = .ok (.iconst 0, 1) := dk_3 (dk_at dksX0_tellsOrder_0 16 rfl rfl)
theorem dX0_tellsOrder_17 : decode cX0_tellsOrder 17 = .ok (.aload_n 3, 1) := dk_45 (dk_at dksX0_tellsOrder_0 17 rfl rfl)
theorem dX0_tellsOrder_18 : decode cX0_tellsOrder 18 = .ok (.getfield 180, 3) := dk_180 0 180 (dk_at dksX0_tellsOrder_0 18 rfl rfl)
theorem dX0_tellsOrder_21 : decode cX0_tellsOrder 21 = .ok (.i2l, 1) := dk_133 (dk_at dksX0_tellsOrder_0 21 rfl rfl)
theorem dX0_tellsOrder_22 : decode cX0_tellsOrder 22 = .ok (.lastore, 1) := dk_80 (dk_at dksX0_tellsOrder_0 22 rfl rfl)
theorem dX0_tellsOrder_23 : decode cX0_tellsOrder 23 = .ok (.aload 4, 2) := dk_25 4 (dk_at dksX0_tellsOrder_1 0 rfl rfl)
theorem dX0_tellsOrder_25 : decode cX0_tellsOrder 25 = .ok (.iconst 1, 1) := dk_4 (dk_at dksX0_tellsOrder_1 2 rfl rfl)
theorem dX0_tellsOrder_26 : decode cX0_tellsOrder 26 = .ok (.iload_n 1, 1) := dk_27 (dk_at dksX0_tellsOrder_1 3 rfl rfl)
theorem dX0_tellsOrder_27 : decode cX0_tellsOrder 27 = .ok (.i2l, 1) := dk_133 (dk_at dksX0_tellsOrder_1 4 rfl rfl)
theorem dX0_tellsOrder_28 : decode cX0_tellsOrder 28 = .ok (.lastore, 1) := dk_80 (dk_at dksX0_tellsOrder_1 5 rfl rfl)
theorem dX0_tellsOrder_29 : decode cX0_tellsOrder 29 = .ok (.aload 4, 2) := dk_25 4 (dk_at dksX0_tellsOrder_1 6 rfl rfl)
theorem dX0_tellsOrder_31 : decode cX0_tellsOrder 31 = .ok (.iconst 2, 1) := dk_5 (dk_at dksX0_tellsOrder_1 8 rfl rfl)
theorem dX0_tellsOrder_32 : decode cX0_tellsOrder 32 = .ok (.iload_n 2, 1) := dk_28 (dk_at dksX0_tellsOrder_1 9 rfl rfl)
theorem dX0_tellsOrder_33 : decode cX0_tellsOrder 33 = .ok (.i2l, 1) := dk_133 (dk_at dksX0_tellsOrder_1 10 rfl rfl)
theorem dX0_tellsOrder_34 : decode cX0_tellsOrder 34 = .ok (.lastore, 1) := dk_80 (dk_at dksX0_tellsOrder_1 11 rfl rfl)
theorem dX0_tellsOrder_35 : decode cX0_tellsOrder 35 = .ok (.iconst 0, 1) := dk_3 (dk_at dksX0_tellsOrder_1 12 rfl rfl)
theorem dX0_tellsOrder_36 : decode cX0_tellsOrder 36 = .ok (.istore 5, 2) := dk_54 5 (dk_at dksX0_tellsOrder_1 13 rfl rfl)
theorem dX0_tellsOrder_38 : decode cX0_tellsOrder 38 = .ok (.iload 5, 2) := dk_21 5 (dk_at dksX0_tellsOrder_1 15 rfl rfl)
theorem dX0_tellsOrder_40 : decode cX0_tellsOrder 40 = .ok (.bipush 6, 2) := dk_16 6 (dk_at dksX0_tellsOrder_1 17 rfl rfl)
theorem dX0_tellsOrder_42 : decode cX0_tellsOrder 42 = .ok (.if_icmp .ge 70, 3) := dk_162 0 70 (dk_at dksX0_tellsOrder_1 19 rfl rfl)
theorem dX0_tellsOrder_45 : decode cX0_tellsOrder 45 = .ok (.aload 4, 2) := dk_25 4 (dk_at dksX0_tellsOrder_1 22 rfl rfl)
theorem dX0_tellsOrder_47 : decode cX0_tellsOrder 47 = .ok (.iconst 3, 1) := dk_6 (dk_at dksX0_tellsOrder_2 0 rfl rfl)
theorem dX0_tellsOrder_48 : decode cX0_tellsOrder 48 = .ok (.iload 5, 2) := dk_21 5 (dk_at dksX0_tellsOrder_2 1 rfl rfl)
theorem dX0_tellsOrder_50 : decode cX0_tellsOrder 50 = .ok (.iadd, 1) := dk_96 (dk_at dksX0_tellsOrder_2 3 rfl rfl)
theorem dX0_tellsOrder_51 : decode cX0_tellsOrder 51 = .ok (.aload_n 0, 1) := dk_42 (dk_at dksX0_tellsOrder_2 4 rfl rfl)
theorem dX0_tellsOrder_52 : decode cX0_tellsOrder 52 = .ok (.iload 5, 2) := dk_21 5 (dk_at dksX0_tellsOrder_2 5 rfl rfl)
theorem dX0_tellsOrder_54 : decode cX0_tellsOrder 54 = .ok (.invokevirtual 152, 3) := dk_182 0 152 (dk_at dksX0_tellsOrder_2 7 rfl rfl)
theorem dX0_tellsOrder_57 : decode cX0_tellsOrder 57 = .ok (.ifCond .eq 14, 3) := dk_153 0 14 (dk_at dksX0_tellsOrder_2 10 rfl rfl)
theorem dX0_tellsOrder_60 : decode cX0_tellsOrder 60 = .ok (.aload_n 3, 1) := dk_45 (dk_at dksX0_tellsOrder_2 13 rfl rfl)
theorem dX0_tellsOrder_61 : decode cX0_tellsOrder 61 = .ok (.getfield 135, 3) := dk_180 0 135 (dk_at dksX0_tellsOrder_2 14 rfl rfl)
theorem dX0_tellsOrder_64 : decode cX0_tellsOrder 64 = .ok (.iload 5, 2) := dk_21 5 (dk_at dksX0_tellsOrder_2 17 rfl rfl)
theorem dX0_tellsOrder_66 : decode cX0_tellsOrder 66 = .ok (.iaload, 1) := dk_46 (dk_at dksX0_tellsOrder_2 19 rfl rfl)
theorem dX0_tellsOrder_67 : decode cX0_tellsOrder 67 = .ok (.i2l, 1) := dk_133 (dk_at dksX0_tellsOrder_2 20 rfl rfl)
theorem dX0_tellsOrder_68 : decode cX0_tellsOrder 68 = .ok (.goto 6, 3) := dk_167 0 6 (dk_at dksX0_tellsOrder_2 21 rfl rfl)
theorem dX0_tellsOrder_71 : decode cX0_tellsOrder 71 = .ok (.ldc2_w 331, 3) := dk_20 1 75 (dk_at dksX0_tellsOrder_3 0 rfl rfl)
theorem dX0_tellsOrder_74 : decode cX0_tellsOrder 74 = .ok (.lastore, 1) := dk_80 (dk_at dksX0_tellsOrder_3 3 rfl rfl)
theorem dX0_tellsOrder_75 : decode cX0_tellsOrder 75 = .ok (.aload 4, 2) := dk_25 4 (dk_at dksX0_tellsOrder_3 4 rfl rfl)
theorem dX0_tellsOrder_77 : decode cX0_tellsOrder 77 = .ok (.bipush 9, 2) := dk_16 9 (dk_at dksX0_tellsOrder_3 6 rfl rfl)
theorem dX0_tellsOrder_79 : decode cX0_tellsOrder 79 = .ok (.iload 5, 2) := dk_21 5 (dk_at dksX0_tellsOrder_3 8 rfl rfl)
theorem dX0_tellsOrder_81 : decode cX0_tellsOrder 81 = .ok (.iadd, 1) := dk_96 (dk_at dksX0_tellsOrder_3 10 rfl rfl)
theorem dX0_tellsOrder_82 : decode cX0_tellsOrder 82 = .ok (.aload_n 0, 1) := dk_42 (dk_at dksX0_tellsOrder_3 11 rfl rfl)
theorem dX0_tellsOrder_83 : decode cX0_tellsOrder 83 = .ok (.iload 5, 2) := dk_21 5 (dk_at dksX0_tellsOrder_3 12 rfl rfl)
theorem dX0_tellsOrder_85 : decode cX0_tellsOrder 85 = .ok (.invokevirtual 152, 3) := dk_182 0 152 (dk_at dksX0_tellsOrder_3 14 rfl rfl)
theorem dX0_tellsOrder_88 : decode cX0_tellsOrder 88 = .ok (.ifCond .eq 14, 3) := dk_153 0 14 (dk_at dksX0_tellsOrder_3 17 rfl rfl)
theorem dX0_tellsOrder_91 : decode cX0_tellsOrder 91 = .ok (.aload_n 3, 1) := dk_45 (dk_at dksX0_tellsOrder_3 20 rfl rfl)
theorem dX0_tellsOrder_92 : decode cX0_tellsOrder 92 = .ok (.getfield 138, 3) := dk_180 0 138 (dk_at dksX0_tellsOrder_3 21 rfl rfl)
theorem dX0_tellsOrder_95 : decode cX0_tellsOrder 95 = .ok (.iload 5, 2) := dk_21 5 (dk_at dksX0_tellsOrder_4 0 rfl rfl)
theorem dX0_tellsOrder_97 : decode cX0_tellsOrder 97 = .ok (.iaload, 1) := dk_46 (dk_at dksX0_tellsOrder_4 2 rfl rfl)
theorem dX0_tellsOrder_98 : decode cX0_tellsOrder 98 = .ok (.i2l, 1) := dk_133 (dk_at dksX0_tellsOrder_4 3 rfl rfl)
theorem dX0_tellsOrder_99 : decode cX0_tellsOrder 99 = .ok (.goto 6, 3) := dk_167 0 6 (dk_at dksX0_tellsOrder_4 4 rfl rfl)
theorem dX0_tellsOrder_102 : decode cX0_tellsOrder 102 = .ok (.ldc2_w 331, 3) := dk_20 1 75 (dk_at dksX0_tellsOrder_4 7 rfl rfl)
theorem dX0_tellsOrder_105 : decode cX0_tellsOrder 105 = .ok (.lastore, 1) := dk_80 (dk_at dksX0_tellsOrder_4 10 rfl rfl)
theorem dX0_tellsOrder_106 : decode cX0_tellsOrder 106 = .ok (.iinc 5 1, 3) := dk_132 5 1 (dk_at dksX0_tellsOrder_4 11 rfl rfl)
theorem dX0_tellsOrder_109 : decode cX0_tellsOrder 109 = .ok (.goto (-71), 3) := dk_167 255 185 (dk_at dksX0_tellsOrder_4 14 rfl rfl)
theorem dX0_tellsOrder_112 : decode cX0_tellsOrder 112 = .ok (.iconst 0, 1) := dk_3 (dk_at dksX0_tellsOrder_4 17 rfl rfl)
theorem dX0_tellsOrder_113 : decode cX0_tellsOrder 113 = .ok (.istore 5, 2) := dk_54 5 (dk_at dksX0_tellsOrder_4 18 rfl rfl)
theorem dX0_tellsOrder_115 : decode cX0_tellsOrder 115 = .ok (.iload 5, 2) := dk_21 5 (dk_at dksX0_tellsOrder_4 20 rfl rfl)
theorem dX0_tellsOrder_117 : decode cX0_tellsOrder 117 = .ok (.iconst 4, 1) := dk_7 (dk_at dksX0_tellsOrder_4 22 rfl rfl)
theorem dX0_tellsOrder_118 : decode cX0_tellsOrder 118 = .ok (.if_icmp .ge 25, 3) := dk_162 0 25 (dk_at dksX0_tellsOrder_5 0 rfl rfl)
theorem dX0_tellsOrder_121 : decode cX0_tellsOrder 121 = .ok (.aload 4, 2) := dk_25 4 (dk_at dksX0_tellsOrder_5 3 rfl rfl)
theorem dX0_tellsOrder_123 : decode cX0_tellsOrder 123 = .ok (.bipush 15, 2) := dk_16 15 (dk_at dksX0_tellsOrder_5 5 rfl rfl)
theorem dX0_tellsOrder_125 : decode cX0_tellsOrder 125 = .ok (.iload 5, 2) := dk_21 5 (dk_at dksX0_tellsOrder_5 7 rfl rfl)
theorem dX0_tellsOrder_127 : decode cX0_tellsOrder 127 = .ok (.iadd, 1) := dk_96 (dk_at dksX0_tellsOrder_5 9 rfl rfl)
theorem dX0_tellsOrder_128 : decode cX0_tellsOrder 128 = .ok (.aload_n 3, 1) := dk_45 (dk_at dksX0_tellsOrder_5 10 rfl rfl)
theorem dX0_tellsOrder_129 : decode cX0_tellsOrder 129 = .ok (.getfield 177, 3) := dk_180 0 177 (dk_at dksX0_tellsOrder_5 11 rfl rfl)
theorem dX0_tellsOrder_132 : decode cX0_tellsOrder 132 = .ok (.iload 5, 2) := dk_21 5 (dk_at dksX0_tellsOrder_5 14 rfl rfl)
theorem dX0_tellsOrder_134 : decode cX0_tellsOrder 134 = .ok (.iaload, 1) := dk_46 (dk_at dksX0_tellsOrder_5 16 rfl rfl)
theorem dX0_tellsOrder_135 : decode cX0_tellsOrder 135 = .ok (.i2l, 1) := dk_133 (dk_at dksX0_tellsOrder_5 17 rfl rfl)
theorem dX0_tellsOrder_136 : decode cX0_tellsOrder 136 = .ok (.lastore, 1) := dk_80 (dk_at dksX0_tellsOrder_5 18 rfl rfl)
theorem dX0_tellsOrder_137 : decode cX0_tellsOrder 137 = .ok (.iinc 5 1, 3) := dk_132 5 1 (dk_at dksX0_tellsOrder_5 19 rfl rfl)
theorem dX0_tellsOrder_140 : decode cX0_tellsOrder 140 = .ok (.goto (-25), 3) := dk_167 255 231 (dk_at dksX0_tellsOrder_6 0 rfl rfl)
theorem dX0_tellsOrder_143 : decode cX0_tellsOrder 143 = .ok (.return_, 1) := dk_177 (dk_at dksX0_tellsOrder_6 3 rfl rfl)
abbrev cX0_runs : ByteArray := prog_1_method_79_code
def yX0_runs : MethodName := ⟨RX0, "runs", "(LOpenGates$Order;)I"⟩
def dkwX0_runs_4 : List UInt8 := [182, 1, 68, 172]
abbrev dktX0_runs_4 : List UInt8 := dkwX0_runs_4 ++ []
def dkwX0_runs_3 : List UInt8 := [42, 29, 28, 182, 1, 56, 172, 42, 29, 28, 182, 1, 62, 172, 42, 28, 29, 182, 1, 65, 172, 42, 28, 29]
abbrev dktX0_runs_3 : List UInt8 := dkwX0_runs_3 ++ dktX0_runs_4
def dkwX0_runs_2 : List UInt8 := [170, 0, 0, 0, 0, 0, 0, 49, 0, 0, 0, 0, 0, 0, 0, 2, 0, 0, 0, 28, 0, 0, 0, 35, 0, 0, 0, 42]
abbrev dktX0_runs_2 : List UInt8 := dkwX0_runs_2 ++ dktX0_runs_3
def dkwX0_runs_1 : List UInt8 := [43, 180, 1, 164]
abbrev dktX0_runs_1 : List UInt8 := dkwX0_runs_1 ++ dktX0_runs_2
def dkwX0_runs_0 : List UInt8 := [43, 180, 1, 167, 42, 180, 0, 84, 184, 1, 171, 61, 43, 180, 1, 174, 42, 180, 0, 84, 184, 1, 171, 62]
abbrev dktX0_runs_0 : List UInt8 := dkwX0_runs_0 ++ dktX0_runs_1
theorem dksX0_runs_0 : cX0_runs.data.toList.drop 0 = dktX0_runs_0 := by decide +kernel
theorem dksX0_runs_1 : cX0_runs.data.toList.drop 24 = dktX0_runs_1 := dk_seg dksX0_runs_0 24 rfl rfl
theorem dksX0_runs_2 : cX0_runs.data.toList.drop 28 = dktX0_runs_2 := dk_seg dksX0_runs_1 4 rfl rfl
theorem dksX0_runs_3 : cX0_runs.data.toList.drop 56 = dktX0_runs_3 := dk_seg dksX0_runs_2 28 rfl rfl
theorem dksX0_runs_4 : cX0_runs.data.toList.drop 80 = dktX0_runs_4 := dk_seg dksX0_runs_3 24 rfl rfl
theorem dX0_runs_0 : decode cX0_runs 0 = .ok (.aload_n 1, 1) := dk_43 (dk_at dksX0_runs_0 0 rfl rfl)
theorem dX0_runs_1 : decode cX0_runs 1 = .ok (.getfield 423, 3) := dk_180 1 167 (dk_at dksX0_runs_0 1 rfl rfl)
theorem dX0_runs_4 : decode cX0_runs 4 = .ok (.aload_n 0, 1) := dk_42 (dk_at dksX0_runs_0 4 rfl rfl)
theorem dX0_runs_5 : decode cX0_runs 5 = .ok (.getfield 84, 3) := dk_180 0 84 (dk_at dksX0_runs_0 5 rfl rfl)
theorem dX0_runs_8 : decode cX0_runs 8 = .ok (.invokestatic 427, 3) := dk_184 1 171 (dk_at dksX0_runs_0 8 rfl rfl)
theorem dX0_runs_11 : decode cX0_runs 11 = .ok (.istore_n 2, 1) := dk_61 (dk_at dksX0_runs_0 11 rfl rfl)
theorem dX0_runs_12 : decode cX0_runs 12 = .ok (.aload_n 1, 1) := dk_43 (dk_at dksX0_runs_0 12 rfl rfl)
theorem dX0_runs_13 : decode cX0_runs 13 = .ok (.getfield 430, 3) := dk_180 1 174 (dk_at dksX0_runs_0 13 rfl rfl)
theorem dX0_runs_16 : decode cX0_runs 16 = .ok (.aload_n 0, 1) := dk_42 (dk_at dksX0_runs_0 16 rfl rfl)
theorem dX0_runs_17 : decode cX0_runs 17 = .ok (.getfield 84, 3) := dk_180 0 84 (dk_at dksX0_runs_0 17 rfl rfl)
theorem dX0_runs_20 : decode cX0_runs 20 = .ok (.invokestatic 427, 3) := dk_184 1 171 (dk_at dksX0_runs_0 20 rfl rfl)
theorem dX0_runs_23 : decode cX0_runs 23 = .ok (.istore_n 3, 1) := dk_62 (dk_at dksX0_runs_0 23 rfl rfl)
theorem dX0_runs_24 : decode cX0_runs 24 = .ok (.aload_n 1, 1) := dk_43 (dk_at dksX0_runs_1 0 rfl rfl)
theorem dX0_runs_25 : decode cX0_runs 25 = .ok (.getfield 420, 3) := dk_180 1 164 (dk_at dksX0_runs_1 1 rfl rfl)
theorem dX0_runs_28 : decode cX0_runs 28 = .ok (.tableswitch 49 0 2 #[28, 35, 42], 28) := by decide +kernel
theorem dX0_runs_56 : decode cX0_runs 56 = .ok (.aload_n 0, 1) := dk_42 (dk_at dksX0_runs_3 0 rfl rfl)
theorem dX0_runs_57 : decode cX0_runs 57 = .ok (.iload_n 3, 1) := dk_29 (dk_at dksX0_runs_3 1 rfl rfl)
theorem dX0_runs_58 : decode cX0_runs 58 = .ok (.iload_n 2, 1) := dk_28 (dk_at dksX0_runs_3 2 rfl rfl)
theorem dX0_runs_59 : decode cX0_runs 59 = .ok (.invokevirtual 312, 3) := dk_182 1 56 (dk_at dksX0_runs_3 3 rfl rfl)
theorem dX0_runs_62 : decode cX0_runs 62 = .ok (.ireturn, 1) := dk_172 (dk_at dksX0_runs_3 6 rfl rfl)
theorem dX0_runs_63 : decode cX0_runs 63 = .ok (.aload_n 0, 1) := dk_42 (dk_at dksX0_runs_3 7 rfl rfl)
theorem dX0_runs_64 : decode cX0_runs 64 = .ok (.iload_n 3, 1) := dk_29 (dk_at dksX0_runs_3 8 rfl rfl)
theorem dX0_runs_65 : decode cX0_runs 65 = .ok (.iload_n 2, 1) := dk_28 (dk_at dksX0_runs_3 9 rfl rfl)
theorem dX0_runs_66 : decode cX0_runs 66 = .ok (.invokevirtual 318, 3) := dk_182 1 62 (dk_at dksX0_runs_3 10 rfl rfl)
theorem dX0_runs_69 : decode cX0_runs 69 = .ok (.ireturn, 1) := dk_172 (dk_at dksX0_runs_3 13 rfl rfl)
theorem dX0_runs_70 : decode cX0_runs 70 = .ok (.aload_n 0, 1) := dk_42 (dk_at dksX0_runs_3 14 rfl rfl)
theorem dX0_runs_71 : decode cX0_runs 71 = .ok (.iload_n 2, 1) := dk_28 (dk_at dksX0_runs_3 15 rfl rfl)
theorem dX0_runs_72 : decode cX0_runs 72 = .ok (.iload_n 3, 1) := dk_29 (dk_at dksX0_runs_3 16 rfl rfl)
theorem dX0_runs_73 : decode cX0_runs 73 = .ok (.invokevirtual 321, 3) := dk_182 1 65 (dk_at dksX0_runs_3 17 rfl rfl)
theorem dX0_runs_76 : decode cX0_runs 76 = .ok (.ireturn, 1) := dk_172 (dk_at dksX0_runs_3 20 rfl rfl)
theorem dX0_runs_77 : decode cX0_runs 77 = .ok (.aload_n 0, 1) := dk_42 (dk_at dksX0_runs_3 21 rfl rfl)
theorem dX0_runs_78 : decode cX0_runs 78 = .ok (.iload_n 2, 1) := dk_28 (dk_at dksX0_runs_3 22 rfl rfl)
theorem dX0_runs_79 : decode cX0_runs 79 = .ok (.iload_n 3, 1) := dk_29 (dk_at dksX0_runs_3 23 rfl rfl)
theorem dX0_runs_80 : decode cX0_runs 80 = .ok (.invokevirtual 324, 3) := dk_182 1 68 (dk_at dksX0_runs_4 0 rfl rfl)
theorem dX0_runs_83 : decode cX0_runs 83 = .ok (.ireturn, 1) := dk_172 (dk_at dksX0_runs_4 3 rfl rfl)
abbrev cX0_putsBack : ByteArray := prog_1_method_80_code
def yX0_putsBack : MethodName := ⟨RX0, "putsBack", "(I)V"⟩
def dkwX0_putsBack_2 : List UInt8 := [3, 16, 16, 184, 1, 136, 42, 27, 181, 0, 106, 177]
abbrev dktX0_putsBack_2 : List UInt8 := dkwX0_putsBack_2 ++ []
def dkwX0_putsBack_1 : List UInt8 := [42, 180, 0, 57, 28, 50, 182, 1, 42, 132, 2, 1, 167, 255, 233, 42, 180, 0, 63, 3, 42, 180, 0, 60]
abbrev dktX0_putsBack_1 : List UInt8 := dkwX0_putsBack_1 ++ dktX0_putsBack_2
def dkwX0_putsBack_0 : List UInt8 := [42, 182, 0, 132, 42, 180, 0, 67, 182, 1, 42, 3, 61, 28, 27, 162, 0, 24, 42, 180, 0, 53, 28, 50]
abbrev dktX0_putsBack_0 : List UInt8 := dkwX0_putsBack_0 ++ dktX0_putsBack_1
theorem dksX0_putsBack_0 : cX0_putsBack.data.toList.drop 0 = dktX0_putsBack_0 := by decide +kernel
theorem dksX0_putsBack_1 : cX0_putsBack.data.toList.drop 24 = dktX0_putsBack_1 := dk_seg dksX0_putsBack_0 24 rfl rfl
theorem dksX0_putsBack_2 : cX0_putsBack.data.toList.drop 48 = dktX0_putsBack_2 := dk_seg dksX0_putsBack_1 24 rfl rfl
theorem dX0_putsBack_0 : decode cX0_putsBack 0 = .ok (.aload_n 0, 1) := dk_42 (dk_at dksX0_putsBack_0 0 rfl rfl)
theorem dX0_putsBack_1 : decode cX0_putsBack 1 = .ok (.invokevirtual 132, 3) := dk_182 0 132 (dk_at dksX0_putsBack_0 1 rfl rfl)
theorem dX0_putsBack_4 : decode cX0_putsBack 4 = .ok (.aload_n 0, 1) := dk_42 (dk_at dksX0_putsBack_0 4 rfl rfl)
theorem dX0_putsBack_5 : decode cX0_putsBack 5 = .ok (.getfield 67, 3) := dk_180 0 67 (dk_at dksX0_putsBack_0 5 rfl rfl)
theorem dX0_putsBack_8 : decode cX0_putsBack 8 = .ok (.invokevirtual 298, 3) := dk_182 1 42 (dk_at dksX0_putsBack_0 8 rfl rfl)
theorem dX0_putsBack_11 : decode cX0_putsBack 11 = .ok (.iconst 0, 1) := dk_3 (dk_at dksX0_putsBack_0 11 rfl rfl)
theorem dX0_putsBack_12 : decode cX0_putsBack 12 = .ok (.istore_n 2, 1) := dk_61 (dk_at dksX0_putsBack_0 12 rfl rfl)
theorem dX0_putsBack_13 : decode cX0_putsBack 13 = .ok (.iload_n 2, 1) := dk_28 (dk_at dksX0_putsBack_0 13 rfl rfl)
theorem dX0_putsBack_14 : decode cX0_putsBack 14 = .ok (.iload_n 1, 1) := dk_27 (dk_at dksX0_putsBack_0 14 rfl rfl)
theorem dX0_putsBack_15 : decode cX0_putsBack 15 = .ok (.if_icmp .ge 24, 3) := dk_162 0 24 (dk_at dksX0_putsBack_0 15 rfl rfl)
theorem dX0_putsBack_18 : decode cX0_putsBack 18 = .ok (.aload_n 0, 1) := dk_42 (dk_at dksX0_putsBack_0 18 rfl rfl)
theorem dX0_putsBack_19 : decode cX0_putsBack 19 = .ok (.getfield 53, 3) := dk_180 0 53 (dk_at dksX0_putsBack_0 19 rfl rfl)
theorem dX0_putsBack_22 : decode cX0_putsBack 22 = .ok (.iload_n 2, 1) := dk_28 (dk_at dksX0_putsBack_0 22 rfl rfl)
theorem dX0_putsBack_23 : decode cX0_putsBack 23 = .ok (.aaload, 1) := dk_50 (dk_at dksX0_putsBack_0 23 rfl rfl)
theorem dX0_putsBack_24 : decode cX0_putsBack 24 = .ok (.aload_n 0, 1) := dk_42 (dk_at dksX0_putsBack_1 0 rfl rfl)
theorem dX0_putsBack_25 : decode cX0_putsBack 25 = .ok (.getfield 57, 3) := dk_180 0 57 (dk_at dksX0_putsBack_1 1 rfl rfl)
theorem dX0_putsBack_28 : decode cX0_putsBack 28 = .ok (.iload_n 2, 1) := dk_28 (dk_at dksX0_putsBack_1 4 rfl rfl)
theorem dX0_putsBack_29 : decode cX0_putsBack 29 = .ok (.aaload, 1) := dk_50 (dk_at dksX0_putsBack_1 5 rfl rfl)
theorem dX0_putsBack_30 : decode cX0_putsBack 30 = .ok (.invokevirtual 298, 3) := dk_182 1 42 (dk_at dksX0_putsBack_1 6 rfl rfl)
theorem dX0_putsBack_33 : decode cX0_putsBack 33 = .ok (.iinc 2 1, 3) := dk_132 2 1 (dk_at dksX0_putsBack_1 9 rfl rfl)
theorem dX0_putsBack_36 : decode cX0_putsBack 36 = .ok (.goto (-23), 3) := dk_167 255 233 (dk_at dksX0_putsBack_1 12 rfl rfl)
theorem dX0_putsBack_39 : decode cX0_putsBack 39 = .ok (.aload_n 0, 1) := dk_42 (dk_at dksX0_putsBack_1 15 rfl rfl)
theorem dX0_putsBack_40 : decode cX0_putsBack 40 = .ok (.getfield 63, 3) := dk_180 0 63 (dk_at dksX0_putsBack_1 16 rfl rfl)
theorem dX0_putsBack_43 : decode cX0_putsBack 43 = .ok (.iconst 0, 1) := dk_3 (dk_at dksX0_putsBack_1 19 rfl rfl)
theorem dX0_putsBack_44 : decode cX0_putsBack 44 = .ok (.aload_n 0, 1) := dk_42 (dk_at dksX0_putsBack_1 20 rfl rfl)
theorem dX0_putsBack_45 : decode cX0_putsBack 45 = .ok (.getfield 60, 3) := dk_180 0 60 (dk_at dksX0_putsBack_1 21 rfl rfl)
theorem dX0_putsBack_48 : decode cX0_putsBack 48 = .ok (.iconst 0, 1) := dk_3 (dk_at dksX0_putsBack_2 0 rfl rfl)
theorem dX0_putsBack_49 : decode cX0_putsBack 49 = .ok (.bipush 16, 2) := dk_16 16 (dk_at dksX0_putsBack_2 1 rfl rfl)
theorem dX0_putsBack_51 : decode cX0_putsBack 51 = .ok (.invokestatic 392, 3) := dk_184 1 136 (dk_at dksX0_putsBack_2 3 rfl rfl)
theorem dX0_putsBack_54 : decode cX0_putsBack 54 = .ok (.aload_n 0, 1) := dk_42 (dk_at dksX0_putsBack_2 6 rfl rfl)
theorem dX0_putsBack_55 : decode cX0_putsBack 55 = .ok (.iload_n 1, 1) := dk_27 (dk_at dksX0_putsBack_2 7 rfl rfl)
theorem dX0_putsBack_56 : decode cX0_putsBack 56 = .ok (.putfield 106, 3) := dk_181 0 106 (dk_at dksX0_putsBack_2 8 rfl rfl)
theorem dX0_putsBack_59 : decode cX0_putsBack 59 = .ok (.return_, 1) := dk_177 (dk_at dksX0_putsBack_2 11 rfl rfl)
abbrev cX0_sieges : ByteArray := prog_1_method_83_code
def yX0_sieges : MethodName := ⟨RX0, "sieges", "(II)I"⟩
def dkwX0_sieges_8 : List UInt8 := [132, 4, 1, 132, 5, 1, 167, 255, 143, 42, 21, 4, 182, 0, 109, 172]
abbrev dktX0_sieges_8 : List UInt8 := dkwX0_sieges_8 ++ []
def dkwX0_sieges_7 : List UInt8 := [180, 0, 180, 17, 3, 231, 162, 0, 19, 42, 45, 21, 7, 21, 6, 182, 1, 53, 4, 160, 0, 6]
abbrev dktX0_sieges_7 : List UInt8 := dkwX0_sieges_7 ++ dktX0_sieges_8
def dkwX0_sieges_6 : List UInt8 := [154, 0, 15, 42, 45, 21, 6, 21, 8, 182, 1, 45, 153, 0, 11, 45, 21, 6, 21, 8, 182, 1, 51, 45]
abbrev dktX0_sieges_6 : List UInt8 := dkwX0_sieges_6 ++ dktX0_sieges_7
def dkwX0_sieges_5 : List UInt8 := [21, 6, 182, 0, 155, 153, 0, 6, 167, 0, 64, 45, 180, 0, 138, 21, 6, 46, 21, 8, 184, 0, 245]
abbrev dktX0_sieges_5 : List UInt8 := dkwX0_sieges_5 ++ dktX0_sieges_6
def dkwX0_sieges_4 : List UInt8 := [182, 1, 186, 54, 6, 4, 42, 16, 99, 182, 1, 186, 96, 54, 7, 42, 16, 6, 182, 1, 186, 54, 8, 45]
abbrev dktX0_sieges_4 : List UInt8 := dkwX0_sieges_4 ++ dktX0_sieges_5
def dkwX0_sieges_3 : List UInt8 := [182, 1, 42, 3, 54, 4, 3, 54, 5, 21, 5, 28, 162, 0, 113, 42, 42, 180, 0, 43, 180, 0, 112]
abbrev dktX0_sieges_3 : List UInt8 := dkwX0_sieges_3 ++ dktX0_sieges_4
def dkwX0_sieges_2 : List UInt8 := [181, 1, 177, 42, 42, 180, 0, 43, 180, 0, 112, 181, 0, 100, 42, 180, 0, 97, 78, 45, 42, 182, 0, 132]
abbrev dktX0_sieges_2 : List UInt8 := dkwX0_sieges_2 ++ dktX0_sieges_3
def dkwX0_sieges_1 : List UInt8 := [182, 0, 115, 172, 42, 180, 0, 43, 180, 0, 112, 154, 0, 10, 42, 16, 253, 182, 0, 115, 172, 42, 27]
abbrev dktX0_sieges_1 : List UInt8 := dkwX0_sieges_1 ++ dktX0_sieges_2
def dkwX0_sieges_0 : List UInt8 := [27, 3, 19, 1, 71, 184, 0, 26, 153, 0, 13, 28, 4, 16, 60, 184, 0, 26, 154, 0, 9, 42, 2]
abbrev dktX0_sieges_0 : List UInt8 := dkwX0_sieges_0 ++ dktX0_sieges_1
theorem dksX0_sieges_0 : cX0_sieges.data.toList.drop 0 = dktX0_sieges_0 := by decide +kernel
theorem dksX0_sieges_1 : cX0_sieges.data.toList.drop 23 = dktX0_sieges_1 := dk_seg dksX0_sieges_0 23 rfl rfl
theorem dksX0_sieges_2 : cX0_sieges.data.toList.drop 46 = dktX0_sieges_2 := dk_seg dksX0_sieges_1 23 rfl rfl
theorem dksX0_sieges_3 : cX0_sieges.data.toList.drop 70 = dktX0_sieges_3 := dk_seg dksX0_sieges_2 24 rfl rfl
theorem dksX0_sieges_4 : cX0_sieges.data.toList.drop 93 = dktX0_sieges_4 := dk_seg dksX0_sieges_3 23 rfl rfl
theorem dksX0_sieges_5 : cX0_sieges.data.toList.drop 117 = dktX0_sieges_5 := dk_seg dksX0_sieges_4 24 rfl rfl
theorem dksX0_sieges_6 : cX0_sieges.data.toList.drop 140 = dktX0_sieges_6 := dk_seg dksX0_sieges_5 23 rfl rfl
theorem dksX0_sieges_7 : cX0_sieges.data.toList.drop 164 = dktX0_sieges_7 := dk_seg dksX0_sieges_6 24 rfl rfl
theorem dksX0_sieges_8 : cX0_sieges.data.toList.drop 186 = dktX0_sieges_8 := dk_seg dksX0_sieges_7 22 rfl rfl
theorem dX0_sieges_0 : decode cX0_sieges 0 = .ok (.iload_n 1, 1) := dk_27 (dk_at dksX0_sieges_0 0 rfl rfl)
theorem dX0_sieges_1 : decode cX0_sieges 1 = .ok (.iconst 0, 1) := dk_3 (dk_at dksX0_sieges_0 1 rfl rfl)
theorem dX0_sieges_2 : decode cX0_sieges 2 = .ok (.ldc_w 327, 3) := dk_19 1 71 (dk_at dksX0_sieges_0 2 rfl rfl)
theorem dX0_sieges_5 : decode cX0_sieges 5 = .ok (.invokestatic 26, 3) := dk_184 0 26 (dk_at dksX0_sieges_0 5 rfl rfl)
theorem dX0_sieges_8 : decode cX0_sieges 8 = .ok (.ifCond .eq 13, 3) := dk_153 0 13 (dk_at dksX0_sieges_0 8 rfl rfl)
theorem dX0_sieges_11 : decode cX0_sieges 11 = .ok (.iload_n 2, 1) := dk_28 (dk_at dksX0_sieges_0 11 rfl rfl)
theorem dX0_sieges_12 : decode cX0_sieges 12 = .ok (.iconst 1, 1) := dk_4 (dk_at dksX0_sieges_0 12 rfl rfl)
theorem dX0_sieges_13 : decode cX0_sieges 13 = .ok (.bipush 60, 2) := dk_16 60 (dk_at dksX0_sieges_0 13 rfl rfl)
theorem dX0_sieges_15 : decode cX0_sieges 15 = .ok (.invokestatic 26, 3) := dk_184 0 26 (dk_at dksX0_sieges_0 15 rfl rfl)
theorem dX0_sieges_18 : decode cX0_sieges 18 = .ok (.ifCond .ne 9, 3) := dk_154 0 9 (dk_at dksX0_sieges_0 18 rfl rfl)
theorem dX0_sieges_21 : decode cX0_sieges 21 = .ok (.aload_n 0, 1) := dk_42 (dk_at dksX0_sieges_0 21 rfl rfl)
theorem dX0_sieges_22 : decode cX0_sieges 22 = .ok (.iconst (-1), 1) := dk_2 (dk_at dksX0_sieges_0 22 rfl rfl)
theorem dX0_sieges_23 : decode cX0_sieges 23 = .ok (.invokevirtual 115, 3) := dk_182 0 115 (dk_at dksX0_sieges_1 0 rfl rfl)
theorem dX0_sieges_26 : decode cX0_sieges 26 = .ok (.ireturn, 1) := dk_172 (dk_at dksX0_sieges_1 3 rfl rfl)
theorem dX0_sieges_27 : decode cX0_sieges 27 = .ok (.aload_n 0, 1) := dk_42 (dk_at dksX0_sieges_1 4 rfl rfl)
theorem dX0_sieges_28 : decode cX0_sieges 28 = .ok (.getfield 43, 3) := dk_180 0 43 (dk_at dksX0_sieges_1 5 rfl rfl)
theorem dX0_sieges_31 : decode cX0_sieges 31 = .ok (.getfield 112, 3) := dk_180 0 112 (dk_at dksX0_sieges_1 8 rfl rfl)
theorem dX0_sieges_34 : decode cX0_sieges 34 = .ok (.ifCond .ne 10, 3) := dk_154 0 10 (dk_at dksX0_sieges_1 11 rfl rfl)
theorem dX0_sieges_37 : decode cX0_sieges 37 = .ok (.aload_n 0, 1) := dk_42 (dk_at dksX0_sieges_1 14 rfl rfl)
theorem dX0_sieges_38 : decode cX0_sieges 38 = .ok (.bipush (-3), 2) := dk_16 253 (dk_at dksX0_sieges_1 15 rfl rfl)
theorem dX0_sieges_40 : decode cX0_sieges 40 = .ok (.invokevirtual 115, 3) := dk_182 0 115 (dk_at dksX0_sieges_1 17 rfl rfl)
theorem dX0_sieges_43 : decode cX0_sieges 43 = .ok (.ireturn, 1) := dk_172 (dk_at dksX0_sieges_1 20 rfl rfl)
theorem dX0_sieges_44 : decode cX0_sieges 44 = .ok (.aload_n 0, 1) := dk_42 (dk_at dksX0_sieges_1 21 rfl rfl)
theorem dX0_sieges_45 : decode cX0_sieges 45 = .ok (.iload_n 1, 1) := dk_27 (dk_at dksX0_sieges_1 22 rfl rfl)
theorem dX0_sieges_46 : decode cX0_sieges 46 = .ok (.putfield 433, 3) := dk_181 1 177 (dk_at dksX0_sieges_2 0 rfl rfl)
theorem dX0_sieges_49 : decode cX0_sieges 49 = .ok (.aload_n 0, 1) := dk_42 (dk_at dksX0_sieges_2 3 rfl rfl)
theorem dX0_sieges_50 : decode cX0_sieges 50 = .ok (.aload_n 0, 1) := dk_42 (dk_at dksX0_sieges_2 4 rfl rfl)
theorem dX0_sieges_51 : decode cX0_sieges 51 = .ok (.getfield 43, 3) := dk_180 0 43 (dk_at dksX0_sieges_2 5 rfl rfl)
theorem dX0_sieges_54 : decode cX0_sieges 54 = .ok (.getfield 112, 3) := dk_180 0 112 (dk_at dksX0_sieges_2 8 rfl rfl)
theorem dX0_sieges_57 : decode cX0_sieges 57 = .ok (.putfield 100, 3) := dk_181 0 100 (dk_at dksX0_sieges_2 11 rfl rfl)
theorem dX0_sieges_60 : decode cX0_sieges 60 = .ok (.aload_n 0, 1) := dk_42 (dk_at dksX0_sieges_2 14 rfl rfl)
theorem dX0_sieges_61 : decode cX0_sieges 61 = .ok (.getfield 97, 3) := dk_180 0 97 (dk_at dksX0_sieges_2 15 rfl rfl)
theorem dX0_sieges_64 : decode cX0_sieges 64 = .ok (.astore_n 3, 1) := dk_78 (dk_at dksX0_sieges_2 18 rfl rfl)
theorem dX0_sieges_65 : decode cX0_sieges 65 = .ok (.aload_n 3, 1) := dk_45 (dk_at dksX0_sieges_2 19 rfl rfl)
theorem dX0_sieges_66 : decode cX0_sieges 66 = .ok (.aload_n 0, 1) := dk_42 (dk_at dksX0_sieges_2 20 rfl rfl)
theorem dX0_sieges_67 : decode cX0_sieges 67 = .ok (.invokevirtual 132, 3) := dk_182 0 132 (dk_at dksX0_sieges_2 21 rfl rfl)
theorem dX0_sieges_70 : decode cX0_sieges 70 = .ok (.invokevirtual 298, 3) := dk_182 1 42 (dk_at dksX0_sieges_3 0 rfl rfl)
theorem dX0_sieges_73 : decode cX0_sieges 73 = .ok (.iconst 0, 1) := dk_3 (dk_at dksX0_sieges_3 3 rfl rfl)
theorem dX0_sieges_74 : decode cX0_sieges 74 = .ok (.istore 4, 2) := dk_54 4 (dk_at dksX0_sieges_3 4 rfl rfl)
theorem dX0_sieges_76 : decode cX0_sieges 76 = .ok (.iconst 0, 1) := dk_3 (dk_at dksX0_sieges_3 6 rfl rfl)
theorem dX0_sieges_77 : decode cX0_sieges 77 = .ok (.istore 5, 2) := dk_54 5 (dk_at dksX0_sieges_3 7 rfl rfl)
theorem dX0_sieges_79 : decode cX0_sieges 79 = .ok (.iload 5, 2) := dk_21 5 (dk_at dksX0_sieges_3 9 rfl rfl)
theorem dX0_sieges_81 : decode cX0_sieges 81 = .ok (.iload_n 2, 1) := dk_28 (dk_at dksX0_sieges_3 11 rfl rfl)
theorem dX0_sieges_82 : decode cX0_sieges 82 = .ok (.if_icmp .ge 113, 3) := dk_162 0 113 (dk_at dksX0_sieges_3 12 rfl rfl)
theorem dX0_sieges_85 : decode cX0_sieges 85 = .ok (.aload_n 0, 1) := dk_42 (dk_at dksX0_sieges_3 15 rfl rfl)
theorem dX0_sieges_86 : decode cX0_sieges 86 = .ok (.aload_n 0, 1) := dk_42 (dk_at dksX0_sieges_3 16 rfl rfl)
theorem dX0_sieges_87 : decode cX0_sieges 87 = .ok (.getfield 43, 3) := dk_180 0 43 (dk_at dksX0_sieges_3 17 rfl rfl)
theorem dX0_sieges_90 : decode cX0_sieges 90 = .ok (.getfield 112, 3) := dk_180 0 112 (dk_at dksX0_sieges_3 20 rfl rfl)
theorem dX0_sieges_93 : decode cX0_sieges 93 = .ok (.invokevirtual 442, 3) := dk_182 1 186 (dk_at dksX0_sieges_4 0 rfl rfl)
theorem dX0_sieges_96 : decode cX0_sieges 96 = .ok (.istore 6, 2) := dk_54 6 (dk_at dksX0_sieges_4 3 rfl rfl)
theorem dX0_sieges_98 : decode cX0_sieges 98 = .ok (.iconst 1, 1) := dk_4 (dk_at dksX0_sieges_4 5 rfl rfl)
theorem dX0_sieges_99 : decode cX0_sieges 99 = .ok (.aload_n 0, 1) := dk_42 (dk_at dksX0_sieges_4 6 rfl rfl)
theorem dX0_sieges_100 : decode cX0_sieges 100 = .ok (.bipush 99, 2) := dk_16 99 (dk_at dksX0_sieges_4 7 rfl rfl)
theorem dX0_sieges_102 : decode cX0_sieges 102 = .ok (.invokevirtual 442, 3) := dk_182 1 186 (dk_at dksX0_sieges_4 9 rfl rfl)
theorem dX0_sieges_105 : decode cX0_sieges 105 = .ok (.iadd, 1) := dk_96 (dk_at dksX0_sieges_4 12 rfl rfl)
theorem dX0_sieges_106 : decode cX0_sieges 106 = .ok (.istore 7, 2) := dk_54 7 (dk_at dksX0_sieges_4 13 rfl rfl)
theorem dX0_sieges_108 : decode cX0_sieges 108 = .ok (.aload_n 0, 1) := dk_42 (dk_at dksX0_sieges_4 15 rfl rfl)
theorem dX0_sieges_109 : decode cX0_sieges 109 = .ok (.bipush 6, 2) := dk_16 6 (dk_at dksX0_sieges_4 16 rfl rfl)
theorem dX0_sieges_111 : decode cX0_sieges 111 = .ok (.invokevirtual 442, 3) := dk_182 1 186 (dk_at dksX0_sieges_4 18 rfl rfl)
theorem dX0_sieges_114 : decode cX0_sieges 114 = .ok (.istore 8, 2) := dk_54 8 (dk_at dksX0_sieges_4 21 rfl rfl)
theorem dX0_sieges_116 : decode cX0_sieges 116 = .ok (.aload_n 3, 1) := dk_45 (dk_at dksX0_sieges_4 23 rfl rfl)
theorem dX0_sieges_117 : decode cX0_sieges 117 = .ok (.iload 6, 2) := dk_21 6 (dk_at dksX0_sieges_5 0 rfl rfl)
theorem dX0_sieges_119 : decode cX0_sieges 119 = .ok (.invokevirtual 155, 3) := dk_182 0 155 (dk_at dksX0_sieges_5 2 rfl rfl)
theorem dX0_sieges_122 : decode cX0_sieges 122 = .ok (.ifCond .eq 6, 3) := dk_153 0 6 (dk_at dksX0_sieges_5 5 rfl rfl)
theorem dX0_sieges_125 : decode cX0_sieges 125 = .ok (.goto 64, 3) := dk_167 0 64 (dk_at dksX0_sieges_5 8 rfl rfl)
theorem dX0_sieges_128 : decode cX0_sieges 128 = .ok (.aload_n 3, 1) := dk_45 (dk_at dksX0_sieges_5 11 rfl rfl)
theorem dX0_sieges_129 : decode cX0_sieges 129 = .ok (.getfield 138, 3) := dk_180 0 138 (dk_at dksX0_sieges_5 12 rfl rfl)
theorem dX0_sieges_132 : decode cX0_sieges 132 = .ok (.iload 6, 2) := dk_21 6 (dk_at dksX0_sieges_5 15 rfl rfl)
theorem dX0_sieges_134 : decode cX0_sieges 134 = .ok (.iaload, 1) := dk_46 (dk_at dksX0_sieges_5 17 rfl rfl)
theorem dX0_sieges_135 : decode cX0_sieges 135 = .ok (.iload 8, 2) := dk_21 8 (dk_at dksX0_sieges_5 18 rfl rfl)
theorem dX0_sieges_137 : decode cX0_sieges 137 = .ok (.invokestatic 245, 3) := dk_184 0 245 (dk_at dksX0_sieges_5 20 rfl rfl)
theorem dX0_sieges_140 : decode cX0_sieges 140 = .ok (.ifCond .ne 15, 3) := dk_154 0 15 (dk_at dksX0_sieges_6 0 rfl rfl)
theorem dX0_sieges_143 : decode cX0_sieges 143 = .ok (.aload_n 0, 1) := dk_42 (dk_at dksX0_sieges_6 3 rfl rfl)
theorem dX0_sieges_144 : decode cX0_sieges 144 = .ok (.aload_n 3, 1) := dk_45 (dk_at dksX0_sieges_6 4 rfl rfl)
theorem dX0_sieges_145 : decode cX0_sieges 145 = .ok (.iload 6, 2) := dk_21 6 (dk_at dksX0_sieges_6 5 rfl rfl)
theorem dX0_sieges_147 : decode cX0_sieges 147 = .ok (.iload 8, 2) := dk_21 8 (dk_at dksX0_sieges_6 7 rfl rfl)
theorem dX0_sieges_149 : decode cX0_sieges 149 = .ok (.invokevirtual 301, 3) := dk_182 1 45 (dk_at dksX0_sieges_6 9 rfl rfl)
theorem dX0_sieges_152 : decode cX0_sieges 152 = .ok (.ifCond .eq 11, 3) := dk_153 0 11 (dk_at dksX0_sieges_6 12 rfl rfl)
theorem dX0_sieges_155 : decode cX0_sieges 155 = .ok (.aload_n 3, 1) := dk_45 (dk_at dksX0_sieges_6 15 rfl rfl)
theorem dX0_sieges_156 : decode cX0_sieges 156 = .ok (.iload 6, 2) := dk_21 6 (dk_at dksX0_sieges_6 16 rfl rfl)
theorem dX0_sieges_158 : decode cX0_sieges 158 = .ok (.iload 8, 2) := dk_21 8 (dk_at dksX0_sieges_6 18 rfl rfl)
theorem dX0_sieges_160 : decode cX0_sieges 160 = .ok (.invokevirtual 307, 3) := dk_182 1 51 (dk_at dksX0_sieges_6 20 rfl rfl)
theorem dX0_sieges_163 : decode cX0_sieges 163 = .ok (.aload_n 3, 1) := dk_45 (dk_at dksX0_sieges_6 23 rfl rfl)
theorem dX0_sieges_164 : decode cX0_sieges 164 = .ok (.getfield 180, 3) := dk_180 0 180 (dk_at dksX0_sieges_7 0 rfl rfl)
theorem dX0_sieges_167 : decode cX0_sieges 167 = .ok (.sipush 999, 3) := dk_17 3 231 (dk_at dksX0_sieges_7 3 rfl rfl)
theorem dX0_sieges_170 : decode cX0_sieges 170 = .ok (.if_icmp .ge 19, 3) := dk_162 0 19 (dk_at dksX0_sieges_7 6 rfl rfl)
theorem dX0_sieges_173 : decode cX0_sieges 173 = .ok (.aload_n 0, 1) := dk_42 (dk_at dksX0_sieges_7 9 rfl rfl)
theorem dX0_sieges_174 : decode cX0_sieges 174 = .ok (.aload_n 3, 1) := dk_45 (dk_at dksX0_sieges_7 10 rfl rfl)
theorem dX0_sieges_175 : decode cX0_sieges 175 = .ok (.iload 7, 2) := dk_21 7 (dk_at dksX0_sieges_7 11 rfl rfl)
theorem dX0_sieges_177 : decode cX0_sieges 177 = .ok (.iload 6, 2) := dk_21 6 (dk_at dksX0_sieges_7 13 rfl rfl)
theorem dX0_sieges_179 : decode cX0_sieges 179 = .ok (.invokevirtual 309, 3) := dk_182 1 53 (dk_at dksX0_sieges_7 15 rfl rfl)
theorem dX0_sieges_182 : decode cX0_sieges 182 = .ok (.iconst 1, 1) := dk_4 (dk_at dksX0_sieges_7 18 rfl rfl)
theorem dX0_sieges_183 : decode cX0_sieges 183 = .ok (.if_icmp .ne 6, 3) := dk_160 0 6 (dk_at dksX0_sieges_7 19 rfl rfl)
theorem dX0_sieges_186 : decode cX0_sieges 186 = .ok (.iinc 4 1, 3) := dk_132 4 1 (dk_at dksX0_sieges_8 0 rfl rfl)
theorem dX0_sieges_189 : decode cX0_sieges 189 = .ok (.iinc 5 1, 3) := dk_132 5 1 (dk_at dksX0_sieges_8 3 rfl rfl)
theorem dX0_sieges_192 : decode cX0_sieges 192 = .ok (.goto (-113), 3) := dk_167 255 143 (dk_at dksX0_sieges_8 6 rfl rfl)
theorem dX0_sieges_195 : decode cX0_sieges 195 = .ok (.aload_n 0, 1) := dk_42 (dk_at dksX0_sieges_8 9 rfl rfl)
theorem dX0_sieges_196 : decode cX0_sieges 196 = .ok (.iload 4, 2) := dk_21 4 (dk_at dksX0_sieges_8 10 rfl rfl)
theorem dX0_sieges_198 : decode cX0_sieges 198 = .ok (.invokevirtual 109, 3) := dk_182 0 109 (dk_at dksX0_sieges_8 12 rfl rfl)
theorem dX0_sieges_201 : decode cX0_sieges 201 = .ok (.ireturn, 1) := dk_172 (dk_at dksX0_sieges_8 15 rfl rfl)
abbrev cX0_draw : ByteArray := prog_1_method_82_code
def yX0_draw : MethodName := ⟨RX0, "draw", "(I)I"⟩
def dkwX0_draw_1 : List UInt8 := [180, 1, 177, 27, 112, 172]
abbrev dktX0_draw_1 : List UInt8 := dkwX0_draw_1 ++ []
def dkwX0_draw_0 : List UInt8 := [42, 42, 180, 1, 177, 133, 20, 1, 180, 105, 20, 1, 182, 97, 20, 1, 184, 113, 136, 181, 1, 177, 42]
abbrev dktX0_draw_0 : List UInt8 := dkwX0_draw_0 ++ dktX0_draw_1
theorem dksX0_draw_0 : cX0_draw.data.toList.drop 0 = dktX0_draw_0 := by decide +kernel
theorem dksX0_draw_1 : cX0_draw.data.toList.drop 23 = dktX0_draw_1 := dk_seg dksX0_draw_0 23 rfl rfl
theorem dX0_draw_0 : decode cX0_draw 0 = .ok (.aload_n 0, 1) := dk_42 (dk_at dksX0_draw_0 0 rfl rfl)
theorem dX0_draw_1 : decode cX0_draw 1 = .ok (.aload_n 0, 1) := dk_42 (dk_at dksX0_draw_0 1 rfl rfl)
theorem dX0_draw_2 : decode cX0_draw 2 = .ok (.getfield 433, 3) := dk_180 1 177 (dk_at dksX0_draw_0 2 rfl rfl)
theorem dX0_draw_5 : decode cX0_draw 5 = .ok (.i2l, 1) := dk_133 (dk_at dksX0_draw_0 5 rfl rfl)
theorem dX0_draw_6 : decode cX0_draw 6 = .ok (.ldc2_w 436, 3) := dk_20 1 180 (dk_at dksX0_draw_0 6 rfl rfl)
theorem dX0_draw_9 : decode cX0_draw 9 = .ok (.lmul, 1) := dk_105 (dk_at dksX0_draw_0 9 rfl rfl)
theorem dX0_draw_10 : decode cX0_draw 10 = .ok (.ldc2_w 438, 3) := dk_20 1 182 (dk_at dksX0_draw_0 10 rfl rfl)
theorem dX0_draw_13 : decode cX0_draw 13 = .ok (.ladd, 1) := dk_97 (dk_at dksX0_draw_0 13 rfl rfl)
theorem dX0_draw_14 : decode cX0_draw 14 = .ok (.ldc2_w 440, 3) := dk_20 1 184 (dk_at dksX0_draw_0 14 rfl rfl)
theorem dX0_draw_17 : decode cX0_draw 17 = .ok (.lrem, 1) := dk_113 (dk_at dksX0_draw_0 17 rfl rfl)
theorem dX0_draw_18 : decode cX0_draw 18 = .ok (.l2i, 1) := dk_136 (dk_at dksX0_draw_0 18 rfl rfl)
theorem dX0_draw_19 : decode cX0_draw 19 = .ok (.putfield 433, 3) := dk_181 1 177 (dk_at dksX0_draw_0 19 rfl rfl)
theorem dX0_draw_22 : decode cX0_draw 22 = .ok (.aload_n 0, 1) := dk_42 (dk_at dksX0_draw_0 22 rfl rfl)
theorem dX0_draw_23 : decode cX0_draw 23 = .ok (.getfield 433, 3) := dk_180 1 177 (dk_at dksX0_draw_1 0 rfl rfl)
theorem dX0_draw_26 : decode cX0_draw 26 = .ok (.iload_n 1, 1) := dk_27 (dk_at dksX0_draw_1 3 rfl rfl)
theorem dX0_draw_27 : decode cX0_draw 27 = .ok (.irem, 1) := dk_112 (dk_at dksX0_draw_1 4 rfl rfl)
theorem dX0_draw_28 : decode cX0_draw 28 = .ok (.ireturn, 1) := dk_172 (dk_at dksX0_draw_1 5 rfl rfl)
abbrev cX0_drawn : ByteArray := prog_1_method_84_code
def yX0_drawn : MethodName := ⟨RX0, "drawn", "(II)I"⟩
def dkwX0_drawn_5 : List UInt8 := [172, 2, 172]
abbrev dktX0_drawn_5 : List UInt8 := dkwX0_drawn_5 ++ []
def dkwX0_drawn_4 : List UInt8 := [167, 0, 4, 3, 172, 42, 180, 0, 97, 180, 0, 138, 27, 46, 172, 42, 180, 0, 97, 180, 0, 177, 27, 46]
abbrev dktX0_drawn_4 : List UInt8 := dkwX0_drawn_4 ++ dktX0_drawn_5
def dkwX0_drawn_3 : List UInt8 := [42, 180, 0, 97, 180, 0, 135, 27, 46, 172, 42, 180, 0, 97, 27, 182, 0, 155, 153, 0, 7, 4]
abbrev dktX0_drawn_3 : List UInt8 := dkwX0_drawn_3 ++ dktX0_drawn_4
def dkwX0_drawn_2 : List UInt8 := [170, 0, 0, 0, 0, 0, 0, 79, 0, 0, 0, 0, 0, 0, 0, 3, 0, 0, 0, 32, 0, 0, 0, 42, 0, 0, 0, 59, 0, 0, 0, 69]
abbrev dktX0_drawn_2 : List UInt8 := dkwX0_drawn_2 ++ dktX0_drawn_3
def dkwX0_drawn_1 : List UInt8 := [3, 42, 180, 0, 100, 4, 100, 184, 0, 26, 154, 0, 5, 2, 172, 28]
abbrev dktX0_drawn_1 : List UInt8 := dkwX0_drawn_1 ++ dktX0_drawn_2
def dkwX0_drawn_0 : List UInt8 := [42, 180, 0, 100, 2, 159, 0, 32, 28, 6, 160, 0, 13, 27, 184, 0, 125, 153, 0, 20, 167, 0, 19, 27]
abbrev dktX0_drawn_0 : List UInt8 := dkwX0_drawn_0 ++ dktX0_drawn_1
theorem dksX0_drawn_0 : cX0_drawn.data.toList.drop 0 = dktX0_drawn_0 := by decide +kernel
theorem dksX0_drawn_1 : cX0_drawn.data.toList.drop 24 = dktX0_drawn_1 := dk_seg dksX0_drawn_0 24 rfl rfl
theorem dksX0_drawn_2 : cX0_drawn.data.toList.drop 40 = dktX0_drawn_2 := dk_seg dksX0_drawn_1 16 rfl rfl
theorem dksX0_drawn_3 : cX0_drawn.data.toList.drop 72 = dktX0_drawn_3 := dk_seg dksX0_drawn_2 32 rfl rfl
theorem dksX0_drawn_4 : cX0_drawn.data.toList.drop 94 = dktX0_drawn_4 := dk_seg dksX0_drawn_3 22 rfl rfl
theorem dksX0_drawn_5 : cX0_drawn.data.toList.drop 118 = dktX0_drawn_5 := dk_seg dksX0_drawn_4 24 rfl rfl
theorem dX0_drawn_0 : decode cX0_drawn 0 = .ok (.aload_n 0, 1) := dk_42 (dk_at dksX0_drawn_0 0 rfl rfl)
theorem dX0_drawn_1 : decode cX0_drawn 1 = .ok (.getfield 100, 3) := dk_180 0 100 (dk_at dksX0_drawn_0 1 rfl rfl)
theorem dX0_drawn_4 : decode cX0_drawn 4 = .ok (.iconst (-1), 1) := dk_2 (dk_at dksX0_drawn_0 4 rfl rfl)
theorem dX0_drawn_5 : decode cX0_drawn 5 = .ok (.if_icmp .eq 32, 3) := dk_159 0 32 (dk_at dksX0_drawn_0 5 rfl rfl)
theorem dX0_drawn_8 : decode cX0_drawn 8 = .ok (.iload_n 2, 1) := dk_28 (dk_at dksX0_drawn_0 8 rfl rfl)
theorem dX0_drawn_9 : decode cX0_drawn 9 = .ok (.iconst 3, 1) := dk_6 (dk_at dksX0_drawn_0 9 rfl rfl)
theorem dX0_drawn_10 : decode cX0_drawn 10 = .ok (.if_icmp .ne 13, 3) := dk_160 0 13 (dk_at dksX0_drawn_0 10 rfl rfl)
theorem dX0_drawn_13 : decode cX0_drawn 13 = .ok (.iload_n 1, 1) := dk_27 (dk_at dksX0_drawn_0 13 rfl rfl)
theorem dX0_drawn_14 : decode cX0_drawn 14 = .ok (.invokestatic 125, 3) := dk_184 0 125 (dk_at dksX0_drawn_0 14 rfl rfl)
theorem dX0_drawn_17 : decode cX0_drawn 17 = .ok (.ifCond .eq 20, 3) := dk_153 0 20 (dk_at dksX0_drawn_0 17 rfl rfl)
theorem dX0_drawn_20 : decode cX0_drawn 20 = .ok (.goto 19, 3) := dk_167 0 19 (dk_at dksX0_drawn_0 20 rfl rfl)
theorem dX0_drawn_23 : decode cX0_drawn 23 = .ok (.iload_n 1, 1) := dk_27 (dk_at dksX0_drawn_0 23 rfl rfl)
theorem dX0_drawn_24 : decode cX0_drawn 24 = .ok (.iconst 0, 1) := dk_3 (dk_at dksX0_drawn_1 0 rfl rfl)
theorem dX0_drawn_25 : decode cX0_drawn 25 = .ok (.aload_n 0, 1) := dk_42 (dk_at dksX0_drawn_1 1 rfl rfl)
theorem dX0_drawn_26 : decode cX0_drawn 26 = .ok (.getfield 100, 3) := dk_180 0 100 (dk_at dksX0_drawn_1 2 rfl rfl)
theorem dX0_drawn_29 : decode cX0_drawn 29 = .ok (.iconst 1, 1) := dk_4 (dk_at dksX0_drawn_1 5 rfl rfl)
theorem dX0_drawn_30 : decode cX0_drawn 30 = .ok (.isub, 1) := dk_100 (dk_at dksX0_drawn_1 6 rfl rfl)
theorem dX0_drawn_31 : decode cX0_drawn 31 = .ok (.invokestatic 26, 3) := dk_184 0 26 (dk_at dksX0_drawn_1 7 rfl rfl)
theorem dX0_drawn_34 : decode cX0_drawn 34 = .ok (.ifCond .ne 5, 3) := dk_154 0 5 (dk_at dksX0_drawn_1 10 rfl rfl)
theorem dX0_drawn_37 : decode cX0_drawn 37 = .ok (.iconst (-1), 1) := dk_2 (dk_at dksX0_drawn_1 13 rfl rfl)
theorem dX0_drawn_38 : decode cX0_drawn 38 = .ok (.ireturn, 1) := dk_172 (dk_at dksX0_drawn_1 14 rfl rfl)
theorem dX0_drawn_39 : decode cX0_drawn 39 = .ok (.iload_n 2, 1) := dk_28 (dk_at dksX0_drawn_1 15 rfl rfl)
theorem dX0_drawn_40 : decode cX0_drawn 40 = .ok (.tableswitch 79 0 3 #[32, 42, 59, 69], 32) := by decide +kernel
theorem dX0_drawn_72 : decode cX0_drawn 72 = .ok (.aload_n 0, 1) := dk_42 (dk_at dksX0_drawn_3 0 rfl rfl)
theorem dX0_drawn_73 : decode cX0_drawn 73 = .ok (.getfield 97, 3) := dk_180 0 97 (dk_at dksX0_drawn_3 1 rfl rfl)
theorem dX0_drawn_76 : decode cX0_drawn 76 = .ok (.getfield 135, 3) := dk_180 0 135 (dk_at dksX0_drawn_3 4 rfl rfl)
theorem dX0_drawn_79 : decode cX0_drawn 79 = .ok (.iload_n 1, 1) := dk_27 (dk_at dksX0_drawn_3 7 rfl rfl)
theorem dX0_drawn_80 : decode cX0_drawn 80 = .ok (.iaload, 1) := dk_46 (dk_at dksX0_drawn_3 8 rfl rfl)
theorem dX0_drawn_81 : decode cX0_drawn 81 = .ok (.ireturn, 1) := dk_172 (dk_at dksX0_drawn_3 9 rfl rfl)
theorem dX0_drawn_82 : decode cX0_drawn 82 = .ok (.aload_n 0, 1) := dk_42 (dk_at dksX0_drawn_3 10 rfl rfl)
theorem dX0_drawn_83 : decode cX0_drawn 83 = .ok (.getfield 97, 3) := dk_180 0 97 (dk_at dksX0_drawn_3 11 rfl rfl)
theorem dX0_drawn_86 : decode cX0_drawn 86 = .ok (.iload_n 1, 1) := dk_27 (dk_at dksX0_drawn_3 14 rfl rfl)
theorem dX0_drawn_87 : decode cX0_drawn 87 = .ok (.invokevirtual 155, 3) := dk_182 0 155 (dk_at dksX0_drawn_3 15 rfl rfl)
theorem dX0_drawn_90 : decode cX0_drawn 90 = .ok (.ifCond .eq 7, 3) := dk_153 0 7 (dk_at dksX0_drawn_3 18 rfl rfl)
theorem dX0_drawn_93 : decode cX0_drawn 93 = .ok (.iconst 1, 1) := dk_4 (dk_at dksX0_drawn_3 21 rfl rfl)
theorem dX0_drawn_94 : decode cX0_drawn 94 = .ok (.goto 4, 3) := dk_167 0 4 (dk_at dksX0_drawn_4 0 rfl rfl)
theorem dX0_drawn_97 : decode cX0_drawn 97 = .ok (.iconst 0, 1) := dk_3 (dk_at dksX0_drawn_4 3 rfl rfl)
theorem dX0_drawn_98 : decode cX0_drawn 98 = .ok (.ireturn, 1) := dk_172 (dk_at dksX0_drawn_4 4 rfl rfl)
theorem dX0_drawn_99 : decode cX0_drawn 99 = .ok (.aload_n 0, 1) := dk_42 (dk_at dksX0_drawn_4 5 rfl rfl)
theorem dX0_drawn_100 : decode cX0_drawn 100 = .ok (.getfield 97, 3) := dk_180 0 97 (dk_at dksX0_drawn_4 6 rfl rfl)
theorem dX0_drawn_103 : decode cX0_drawn 103 = .ok (.getfield 138, 3) := dk_180 0 138 (dk_at dksX0_drawn_4 9 rfl rfl)
theorem dX0_drawn_106 : decode cX0_drawn 106 = .ok (.iload_n 1, 1) := dk_27 (dk_at dksX0_drawn_4 12 rfl rfl)
theorem dX0_drawn_107 : decode cX0_drawn 107 = .ok (.iaload, 1) := dk_46 (dk_at dksX0_drawn_4 13 rfl rfl)
theorem dX0_drawn_108 : decode cX0_drawn 108 = .ok (.ireturn, 1) := dk_172 (dk_at dksX0_drawn_4 14 rfl rfl)
theorem dX0_drawn_109 : decode cX0_drawn 109 = .ok (.aload_n 0, 1) := dk_42 (dk_at dksX0_drawn_4 15 rfl rfl)
theorem dX0_drawn_110 : decode cX0_drawn 110 = .ok (.getfield 97, 3) := dk_180 0 97 (dk_at dksX0_drawn_4 16 rfl rfl)
theorem dX0_drawn_113 : decode cX0_drawn 113 = .ok (.getfield 177, 3) := dk_180 0 177 (dk_at dksX0_drawn_4 19 rfl rfl)
theorem dX0_drawn_116 : decode cX0_drawn 116 = .ok (.iload_n 1, 1) := dk_27 (dk_at dksX0_drawn_4 22 rfl rfl)
theorem dX0_drawn_117 : decode cX0_drawn 117 = .ok (.iaload, 1) := dk_46 (dk_at dksX0_drawn_4 23 rfl rfl)
theorem dX0_drawn_118 : decode cX0_drawn 118 = .ok (.ireturn, 1) := dk_172 (dk_at dksX0_drawn_5 0 rfl rfl)
theorem dX0_drawn_119 : decode cX0_drawn 119 = .ok (.iconst (-1), 1) := dk_2 (dk_at dksX0_drawn_5 1 rfl rfl)
theorem dX0_drawn_120 : decode cX0_drawn 120 = .ok (.ireturn, 1) := dk_172 (dk_at dksX0_drawn_5 2 rfl rfl)
abbrev cX0_count : ByteArray := prog_1_method_85_code
def yX0_count : MethodName := ⟨RX0, "count", "(I)I"⟩
def dkwX0_count_7 : List UInt8 := [182, 0, 132, 180, 0, 177, 27, 16, 17, 100, 46, 172, 2, 172]
abbrev dktX0_count_7 : List UInt8 := dkwX0_count_7 ++ []
def dkwX0_count_6 : List UInt8 := [182, 0, 132, 180, 0, 180, 172, 42, 180, 0, 43, 180, 0, 183, 172, 42, 180, 0, 43, 180, 0, 186, 172, 42]
abbrev dktX0_count_6 : List UInt8 := dkwX0_count_6 ++ dktX0_count_7
def dkwX0_count_5 : List UInt8 := [100, 46, 172, 42, 180, 0, 7, 27, 16, 6, 100, 46, 172, 42, 180, 0, 43, 180, 0, 240, 172, 42]
abbrev dktX0_count_5 : List UInt8 := dkwX0_count_5 ++ dktX0_count_6
def dkwX0_count_4 : List UInt8 := [180, 0, 209, 182, 0, 213, 172, 42, 180, 0, 106, 172, 42, 180, 0, 189, 172, 42, 180, 0, 7, 27, 16, 7]
abbrev dktX0_count_4 : List UInt8 := dkwX0_count_4 ++ dktX0_count_5
def dkwX0_count_3 : List UInt8 := [180, 1, 92, 172, 42, 180, 0, 43, 180, 1, 106, 172, 42, 180, 0, 43, 180, 1, 124, 172, 42, 180, 0, 43]
abbrev dktX0_count_3 : List UInt8 := dkwX0_count_3 ++ dktX0_count_4
def dkwX0_count_2 : List UInt8 := [42, 180, 0, 43, 180, 0, 112, 172, 42, 182, 0, 132, 180, 0, 141, 184, 1, 118, 172, 42, 180, 0, 43]
abbrev dktX0_count_2 : List UInt8 := dkwX0_count_2 ++ dktX0_count_3
def dkwX0_count_1 : List UInt8 := [170, 0, 0, 0, 0, 0, 228, 0, 0, 0, 0, 0, 0, 0, 20, 0, 0, 0, 99, 0, 0, 0, 107, 0, 0, 0, 118, 0, 0, 0, 126, 0, 0, 0, 134, 0, 0, 0, 142, 0, 0, 0, 153, 0, 0, 0, 158, 0, 0, 0, 163, 0, 0, 0, 163, 0, 0, 0, 163, 0, 0, 0, 173, 0, 0, 0, 173, 0, 0, 0, 183, 0, 0, 0, 191, 0, 0, 0, 199, 0, 0, 0, 207, 0, 0, 0, 215, 0, 0, 0, 215, 0, 0, 0, 215, 0, 0, 0, 215]
abbrev dktX0_count_1 : List UInt8 := dkwX0_count_1 ++ dktX0_count_2
def dkwX0_count_0 : List UInt8 := [27]
abbrev dktX0_count_0 : List UInt8 := dkwX0_count_0 ++ dktX0_count_1
theorem dksX0_count_0 : cX0_count.data.toList.drop 0 = dktX0_count_0 := by decide +kernel
theorem dksX0_count_1 : cX0_count.data.toList.drop 1 = dktX0_count_1 := dk_seg dksX0_count_0 1 rfl rfl
theorem dksX0_count_2 : cX0_count.data.toList.drop 100 = dktX0_count_2 := dk_seg dksX0_count_1 99 rfl rfl
theorem dksX0_count_3 : cX0_count.data.toList.drop 123 = dktX0_count_3 := dk_seg dksX0_count_2 23 rfl rfl
theorem dksX0_count_4 : cX0_count.data.toList.drop 147 = dktX0_count_4 := dk_seg dksX0_count_3 24 rfl rfl
theorem dksX0_count_5 : cX0_count.data.toList.drop 171 = dktX0_count_5 := dk_seg dksX0_count_4 24 rfl rfl
theorem dksX0_count_6 : cX0_count.data.toList.drop 193 = dktX0_count_6 := dk_seg dksX0_count_5 22 rfl rfl
theorem dksX0_count_7 : cX0_count.data.toList.drop 217 = dktX0_count_7 := dk_seg dksX0_count_6 24 rfl rfl
theorem dX0_count_0 : decode cX0_count 0 = .ok (.iload_n 1, 1) := dk_27 (dk_at dksX0_count_0 0 rfl rfl)
theorem dX0_count_1 : decode cX0_count 1 = .ok (.tableswitch 228 0 20 #[99, 107, 118, 126, 134, 142, 153, 158, 163, 163, 163, 173, 173, 183, 191, 199, 207, 215, 215, 215, 215], 99) := by decide +kernel
theorem dX0_count_100 : decode cX0_count 100 = .ok (.aload_n 0, 1) := dk_42 (dk_at dksX0_count_2 0 rfl rfl)
theorem dX0_count_101 : decode cX0_count 101 = .ok (.getfield 43, 3) := dk_180 0 43 (dk_at dksX0_count_2 1 rfl rfl)
theorem dX0_count_104 : decode cX0_count 104 = .ok (.getfield 112, 3) := dk_180 0 112 (dk_at dksX0_count_2 4 rfl rfl)
theorem dX0_count_107 : decode cX0_count 107 = .ok (.ireturn, 1) := dk_172 (dk_at dksX0_count_2 7 rfl rfl)
theorem dX0_count_108 : decode cX0_count 108 = .ok (.aload_n 0, 1) := dk_42 (dk_at dksX0_count_2 8 rfl rfl)
theorem dX0_count_109 : decode cX0_count 109 = .ok (.invokevirtual 132, 3) := dk_182 0 132 (dk_at dksX0_count_2 9 rfl rfl)
theorem dX0_count_112 : decode cX0_count 112 = .ok (.getfield 141, 3) := dk_180 0 141 (dk_at dksX0_count_2 12 rfl rfl)
theorem dX0_count_115 : decode cX0_count 115 = .ok (.invokestatic 374, 3) := dk_184 1 118 (dk_at dksX0_count_2 15 rfl rfl)
theorem dX0_count_118 : decode cX0_count 118 = .ok (.ireturn, 1) := dk_172 (dk_at dksX0_count_2 18 rfl rfl)
theorem dX0_count_119 : decode cX0_count 119 = .ok (.aload_n 0, 1) := dk_42 (dk_at dksX0_count_2 19 rfl rfl)
theorem dX0_count_120 : decode cX0_count 120 = .ok (.getfield 43, 3) := dk_180 0 43 (dk_at dksX0_count_2 20 rfl rfl)
theorem dX0_count_123 : decode cX0_count 123 = .ok (.getfield 348, 3) := dk_180 1 92 (dk_at dksX0_count_3 0 rfl rfl)
theorem dX0_count_126 : decode cX0_count 126 = .ok (.ireturn, 1) := dk_172 (dk_at dksX0_count_3 3 rfl rfl)
theorem dX0_count_127 : decode cX0_count 127 = .ok (.aload_n 0, 1) := dk_42 (dk_at dksX0_count_3 4 rfl rfl)
theorem dX0_count_128 : decode cX0_count 128 = .ok (.getfield 43, 3) := dk_180 0 43 (dk_at dksX0_count_3 5 rfl rfl)
theorem dX0_count_131 : decode cX0_count 131 = .ok (.getfield 362, 3) := dk_180 1 106 (dk_at dksX0_count_3 8 rfl rfl)
theorem dX0_count_134 : decode cX0_count 134 = .ok (.ireturn, 1) := dk_172 (dk_at dksX0_count_3 11 rfl rfl)
theorem dX0_count_135 : decode cX0_count 135 = .ok (.aload_n 0, 1) := dk_42 (dk_at dksX0_count_3 12 rfl rfl)
theorem dX0_count_136 : decode cX0_count 136 = .ok (.getfield 43, 3) := dk_180 0 43 (dk_at dksX0_count_3 13 rfl rfl)
theorem dX0_count_139 : decode cX0_count 139 = .ok (.getfield 380, 3) := dk_180 1 124 (dk_at dksX0_count_3 16 rfl rfl)
theorem dX0_count_142 : decode cX0_count 142 = .ok (.ireturn, 1) := dk_172 (dk_at dksX0_count_3 19 rfl rfl)
theorem dX0_count_143 : decode cX0_count 143 = .ok (.aload_n 0, 1) := dk_42 (dk_at dksX0_count_3 20 rfl rfl)
theorem dX0_count_144 : decode cX0_count 144 = .ok (.getfield 43, 3) := dk_180 0 43 (dk_at dksX0_count_3 21 rfl rfl)
theorem dX0_count_147 : decode cX0_count 147 = .ok (.getfield 209, 3) := dk_180 0 209 (dk_at dksX0_count_4 0 rfl rfl)
theorem dX0_count_150 : decode cX0_count 150 = .ok (.invokevirtual 213, 3) := dk_182 0 213 (dk_at dksX0_count_4 3 rfl rfl)
theorem dX0_count_153 : decode cX0_count 153 = .ok (.ireturn, 1) := dk_172 (dk_at dksX0_count_4 6 rfl rfl)
theorem dX0_count_154 : decode cX0_count 154 = .ok (.aload_n 0, 1) := dk_42 (dk_at dksX0_count_4 7 rfl rfl)
theorem dX0_count_155 : decode cX0_count 155 = .ok (.getfield 106, 3) := dk_180 0 106 (dk_at dksX0_count_4 8 rfl rfl)
theorem dX0_count_158 : decode cX0_count 158 = .ok (.ireturn, 1) := dk_172 (dk_at dksX0_count_4 11 rfl rfl)
theorem dX0_count_159 : decode cX0_count 159 = .ok (.aload_n 0, 1) := dk_42 (dk_at dksX0_count_4 12 rfl rfl)
theorem dX0_count_160 : decode cX0_count 160 = .ok (.getfield 189, 3) := dk_180 0 189 (dk_at dksX0_count_4 13 rfl rfl)
theorem dX0_count_163 : decode cX0_count 163 = .ok (.ireturn, 1) := dk_172 (dk_at dksX0_count_4 16 rfl rfl)
theorem dX0_count_164 : decode cX0_count 164 = .ok (.aload_n 0, 1) := dk_42 (dk_at dksX0_count_4 17 rfl rfl)
theorem dX0_count_165 : decode cX0_count 165 = .ok (.getfield 7, 3) := dk_180 0 7 (dk_at dksX0_count_4 18 rfl rfl)
theorem dX0_count_168 : decode cX0_count 168 = .ok (.iload_n 1, 1) := dk_27 (dk_at dksX0_count_4 21 rfl rfl)
theorem dX0_count_169 : decode cX0_count 169 = .ok (.bipush 7, 2) := dk_16 7 (dk_at dksX0_count_4 22 rfl rfl)
theorem dX0_count_171 : decode cX0_count 171 = .ok (.isub, 1) := dk_100 (dk_at dksX0_count_5 0 rfl rfl)
theorem dX0_count_172 : decode cX0_count 172 = .ok (.iaload, 1) := dk_46 (dk_at dksX0_count_5 1 rfl rfl)
theorem dX0_count_173 : decode cX0_count 173 = .ok (.ireturn, 1) := dk_172 (dk_at dksX0_count_5 2 rfl rfl)
theorem dX0_count_174 : decode cX0_count 174 = .ok (.aload_n 0, 1) := dk_42 (dk_at dksX0_count_5 3 rfl rfl)
theorem dX0_count_175 : decode cX0_count 175 = .ok (.getfield 7, 3) := dk_180 0 7 (dk_at dksX0_count_5 4 rfl rfl)
theorem dX0_count_178 : decode cX0_count 178 = .ok (.iload_n 1, 1) := dk_27 (dk_at dksX0_count_5 7 rfl rfl)
theorem dX0_count_179 : decode cX0_count 179 = .ok (.bipush 6, 2) := dk_16 6 (dk_at dksX0_count_5 8 rfl rfl)
theorem dX0_count_181 : decode cX0_count 181 = .ok (.isub, 1) := dk_100 (dk_at dksX0_count_5 10 rfl rfl)
theorem dX0_count_182 : decode cX0_count 182 = .ok (.iaload, 1) := dk_46 (dk_at dksX0_count_5 11 rfl rfl)
theorem dX0_count_183 : decode cX0_count 183 = .ok (.ireturn, 1) := dk_172 (dk_at dksX0_count_5 12 rfl rfl)
theorem dX0_count_184 : decode cX0_count 184 = .ok (.aload_n 0, 1) := dk_42 (dk_at dksX0_count_5 13 rfl rfl)
theorem dX0_count_185 : decode cX0_count 185 = .ok (.getfield 43, 3) := dk_180 0 43 (dk_at dksX0_count_5 14 rfl rfl)
theorem dX0_count_188 : decode cX0_count 188 = .ok (.getfield 240, 3) := dk_180 0 240 (dk_at dksX0_count_5 17 rfl rfl)
theorem dX0_count_191 : decode cX0_count 191 = .ok (.ireturn, 1) := dk_172 (dk_at dksX0_count_5 20 rfl rfl)
theorem dX0_count_192 : decode cX0_count 192 = .ok (.aload_n 0, 1) := dk_42 (dk_at dksX0_count_5 21 rfl rfl)
theorem dX0_count_193 : decode cX0_count 193 = .ok (.invokevirtual 132, 3) := dk_182 0 132 (dk_at dksX0_count_6 0 rfl rfl)
theorem dX0_count_196 : decode cX0_count 196 = .ok (.getfield 180, 3) := dk_180 0 180 (dk_at dksX0_count_6 3 rfl rfl)
theorem dX0_count_199 : decode cX0_count 199 = .ok (.ireturn, 1) := dk_172 (dk_at dksX0_count_6 6 rfl rfl)
theorem dX0_count_200 : decode cX0_count 200 = .ok (.aload_n 0, 1) := dk_42 (dk_at dksX0_count_6 7 rfl rfl)
theorem dX0_count_201 : decode cX0_count 201 = .ok (.getfield 43, 3) := dk_180 0 43 (dk_at dksX0_count_6 8 rfl rfl)
theorem dX0_count_204 : decode cX0_count 204 = .ok (.getfield 183, 3) := dk_180 0 183 (dk_at dksX0_count_6 11 rfl rfl)
theorem dX0_count_207 : decode cX0_count 207 = .ok (.ireturn, 1) := dk_172 (dk_at dksX0_count_6 14 rfl rfl)
theorem dX0_count_208 : decode cX0_count 208 = .ok (.aload_n 0, 1) := dk_42 (dk_at dksX0_count_6 15 rfl rfl)
theorem dX0_count_209 : decode cX0_count 209 = .ok (.getfield 43, 3) := dk_180 0 43 (dk_at dksX0_count_6 16 rfl rfl)
theorem dX0_count_212 : decode cX0_count 212 = .ok (.getfield 186, 3) := dk_180 0 186 (dk_at dksX0_count_6 19 rfl rfl)
theorem dX0_count_215 : decode cX0_count 215 = .ok (.ireturn, 1) := dk_172 (dk_at dksX0_count_6 22 rfl rfl)
theorem dX0_count_216 : decode cX0_count 216 = .ok (.aload_n 0, 1) := dk_42 (dk_at dksX0_count_6 23 rfl rfl)
theorem dX0_count_217 : decode cX0_count 217 = .ok (.invokevirtual 132, 3) := dk_182 0 132 (dk_at dksX0_count_7 0 rfl rfl)
theorem dX0_count_220 : decode cX0_count 220 = .ok (.getfield 177, 3) := dk_180 0 177 (dk_at dksX0_count_7 3 rfl rfl)
theorem dX0_count_223 : decode cX0_count 223 = .ok (.iload_n 1, 1) := dk_27 (dk_at dksX0_count_7 6 rfl rfl)
theorem dX0_count_224 : decode cX0_count 224 = .ok (.bipush 17, 2) := dk_16 17 (dk_at dksX0_count_7 7 rfl rfl)
theorem dX0_count_226 : decode cX0_count 226 = .ok (.isub, 1) := dk_100 (dk_at dksX0_count_7 9 rfl rfl)
theorem dX0_count_227 : decode cX0_count 227 = .ok (.iaload, 1) := dk_46 (dk_at dksX0_count_7 10 rfl rfl)
theorem dX0_count_228 : decode cX0_count 228 = .ok (.ireturn, 1) := dk_172 (dk_at dksX0_count_7 11 rfl rfl)
theorem dX0_count_229 : decode cX0_count 229 = .ok (.iconst (-1), 1) := dk_2 (dk_at dksX0_count_7 12 rfl rfl)
theorem dX0_count_230 : decode cX0_count 230 = .ok (.ireturn, 1) := dk_172 (dk_at dksX0_count_7 13 rfl rfl)
abbrev cX0_status : ByteArray := prog_1_method_86_code
def yX0_status : MethodName := ⟨RX0, "status", "()I"⟩
theorem dX0_status_0 : decode cX0_status 0 = .ok (.aload_n 0, 1) := by decide +kernel
theorem dX0_status_1 : decode cX0_status 1 = .ok (.getfield 1, 3) := by decide +kernel
theorem dX0_status_4 : decode cX0_status 4 = .ok (.ireturn, 1) := by decide +kernel
theorem q99 : (Jvm.Cond.initialized "OpenGates") ∈ lw_all := lw_g (lw_at lw_m1 1 rfl) rfl
theorem q136 : (Jvm.Cond.instantiable "OpenGates" (22 : Nat)) ∈ lw_all := lw_g (lw_at lw_m1 38 rfl) rfl
theorem q138 : (Jvm.Cond.instanceMethod ({ cls := "OpenGates", name := "<init>", desc := "()V" } : Jvm.MethodName)) ∈ lw_all := lw_g (lw_at lw_m1 40 rfl) rfl
theorem q139 : (Jvm.Cond.code ({ cls := "OpenGates", name := "<init>", desc := "()V" } : Jvm.MethodName) prog_1_method_11_code (2 : Nat) (Option.none : Option Jvm.ClassFile.FieldType)) ∈ lw_all := lw_g (lw_at lw_m1 41 rfl) rfl
theorem q140 : (Jvm.Cond.methodLink "OpenGates" (34 : Nat) ({ cls := "java/lang/Object", name := "<init>", desc := "()V" } : Jvm.MethodName)) ∈ lw_all := lw_g (lw_at lw_m1 42 rfl) rfl
theorem q143 : (Jvm.Cond.classLink "OpenGates" (40 : Nat) "OpenGates$State") ∈ lw_all := lw_g (lw_at lw_m1 45 rfl) rfl
theorem q145 : (Jvm.Cond.methodLink "OpenGates" (42 : Nat) ({ cls := "OpenGates$State", name := "<init>", desc := "()V" } : Jvm.MethodName)) ∈ lw_all := lw_g (lw_at lw_m1 47 rfl) rfl
theorem q156 : (Jvm.Cond.fieldLinkNest "OpenGates" (135 : Nat) "OpenGates$Table" "men" "[I" "OpenGates") ∈ lw_tbl := lw_at lw_m1 58 rfl
theorem q158 : (Jvm.Cond.fieldLinkNest "OpenGates" (138 : Nat) "OpenGates$Table" "shown" "[I" "OpenGates") ∈ lw_tbl := lw_at lw_m1 60 rfl
theorem q160 : (Jvm.Cond.fieldLinkNest "OpenGates" (177 : Nat) "OpenGates$Table" "fame" "[I" "OpenGates") ∈ lw_tbl := lw_at lw_m1 62 rfl
theorem q162 : (Jvm.Cond.fieldLinkNest "OpenGates" (141 : Nat) "OpenGates$Table" "taken" "I" "OpenGates") ∈ lw_tbl := lw_at lw_m1 64 rfl
theorem q164 : (Jvm.Cond.fieldLinkNest "OpenGates" (180 : Nat) "OpenGates$Table" "day" "I" "OpenGates") ∈ lw_tbl := lw_at lw_m1 66 rfl
theorem q206 : (Jvm.Cond.fieldLinkNest "OpenGates" (103 : Nat) "OpenGates$State" "table" "LOpenGates$Table;" "OpenGates") ∈ lw_tbl := lw_at lw_m1 108 rfl
theorem q208 : (Jvm.Cond.fieldLinkNest "OpenGates" (129 : Nat) "OpenGates$State" "general" "[I" "OpenGates") ∈ lw_tbl := lw_at lw_m1 110 rfl
theorem q210 : (Jvm.Cond.fieldLinkNest "OpenGates" (165 : Nat) "OpenGates$State" "full" "[I" "OpenGates") ∈ lw_tbl := lw_at lw_m1 112 rfl
theorem q212 : (Jvm.Cond.fieldLinkNest "OpenGates" (168 : Nat) "OpenGates$State" "empty" "[I" "OpenGates") ∈ lw_tbl := lw_at lw_m1 114 rfl
theorem q214 : (Jvm.Cond.fieldLinkNest "OpenGates" (171 : Nat) "OpenGates$State" "price" "[I" "OpenGates") ∈ lw_tbl := lw_at lw_m1 116 rfl
theorem q216 : (Jvm.Cond.fieldLinkNest "OpenGates" (174 : Nat) "OpenGates$State" "roads" "[I" "OpenGates") ∈ lw_tbl := lw_at lw_m1 118 rfl
theorem q218 : (Jvm.Cond.fieldLinkNest "OpenGates" (365 : Nat) "OpenGates$State" "fires" "[I" "OpenGates") ∈ lw_tbl := lw_at lw_m1 120 rfl
theorem q220 : (Jvm.Cond.fieldLinkNest "OpenGates" (371 : Nat) "OpenGates$State" "needs" "[I" "OpenGates") ∈ lw_tbl := lw_at lw_m1 122 rfl
theorem q222 : (Jvm.Cond.fieldLinkNest "OpenGates" (383 : Nat) "OpenGates$State" "counts" "[I" "OpenGates") ∈ lw_tbl := lw_at lw_m1 124 rfl
theorem q224 : (Jvm.Cond.fieldLinkNest "OpenGates" (351 : Nat) "OpenGates$State" "sieges" "[I" "OpenGates") ∈ lw_tbl := lw_at lw_m1 126 rfl
theorem q226 : (Jvm.Cond.fieldLinkNest "OpenGates" (209 : Nat) "OpenGates$State" "laws" "Ljava/util/ArrayList;" "OpenGates") ∈ lw_tbl := lw_at lw_m1 128 rfl
theorem q228 : (Jvm.Cond.fieldLinkNest "OpenGates" (112 : Nat) "OpenGates$State" "forts" "I" "OpenGates") ∈ lw_tbl := lw_at lw_m1 130 rfl
theorem q230 : (Jvm.Cond.fieldLinkNest "OpenGates" (362 : Nat) "OpenGates$State" "fireMany" "I" "OpenGates") ∈ lw_tbl := lw_at lw_m1 132 rfl
theorem q232 : (Jvm.Cond.fieldLinkNest "OpenGates" (380 : Nat) "OpenGates$State" "countMany" "I" "OpenGates") ∈ lw_tbl := lw_at lw_m1 134 rfl
theorem q234 : (Jvm.Cond.fieldLinkNest "OpenGates" (348 : Nat) "OpenGates$State" "siegeMany" "I" "OpenGates") ∈ lw_tbl := lw_at lw_m1 136 rfl
theorem q236 : (Jvm.Cond.fieldLinkNest "OpenGates" (183 : Nat) "OpenGates$State" "prior" "I" "OpenGates") ∈ lw_tbl := lw_at lw_m1 138 rfl
theorem q238 : (Jvm.Cond.fieldLinkNest "OpenGates" (186 : Nat) "OpenGates$State" "mood" "I" "OpenGates") ∈ lw_tbl := lw_at lw_m1 140 rfl
theorem q240 : (Jvm.Cond.fieldLinkNest "OpenGates" (240 : Nat) "OpenGates$State" "force" "I" "OpenGates") ∈ lw_tbl := lw_at lw_m1 142 rfl
theorem q279 : (Jvm.Cond.classLink "OpenGates" (51 : Nat) "OpenGates$Table") ∈ lw_all := lw_g (lw_at lw_m1 181 rfl) rfl
theorem q281 : (Jvm.Cond.methodLink "OpenGates" (66 : Nat) ({ cls := "OpenGates$Table", name := "<init>", desc := "()V" } : Jvm.MethodName)) ∈ lw_all := lw_g (lw_at lw_m1 183 rfl) rfl
theorem q282 : (Jvm.Cond.classLink "OpenGates" (81 : Nat) "OpenGates$Setting") ∈ lw_all := lw_g (lw_at lw_m1 184 rfl) rfl
theorem q284 : (Jvm.Cond.methodLinkNest "OpenGates" (83 : Nat) ({ cls := "OpenGates$Setting", name := "<init>", desc := "()V" } : Jvm.MethodName) "OpenGates") ∈ lw_tbl := lw_at lw_m1 186 rfl
theorem q353 : (Jvm.Cond.fieldLinkNest "OpenGates" (254 : Nat) "OpenGates$Setting" "values" "[J" "OpenGates") ∈ lw_tbl := lw_at lw_m2 15 rfl
theorem q360 : (Jvm.Cond.fieldLink "OpenGates" (1 : Nat) "OpenGates" "status" "I") ∈ lw_all := lw_g (lw_at lw_m2 22 rfl) rfl
theorem q361 : (Jvm.Cond.fieldLink "OpenGates" (7 : Nat) "OpenGates" "refused" "[I") ∈ lw_all := lw_g (lw_at lw_m2 23 rfl) rfl
theorem q362 : (Jvm.Cond.fieldLink "OpenGates" (43 : Nat) "OpenGates" "state" "LOpenGates$State;") ∈ lw_all := lw_g (lw_at lw_m2 24 rfl) rfl
theorem q363 : (Jvm.Cond.fieldLink "OpenGates" (47 : Nat) "OpenGates" "images" "[LOpenGates$State;") ∈ lw_all := lw_g (lw_at lw_m2 25 rfl) rfl
theorem q364 : (Jvm.Cond.fieldLink "OpenGates" (53 : Nat) "OpenGates" "undone" "[LOpenGates$Table;") ∈ lw_all := lw_g (lw_at lw_m2 26 rfl) rfl
theorem q365 : (Jvm.Cond.fieldLink "OpenGates" (57 : Nat) "OpenGates" "ordersUndone" "[LOpenGates$Table;") ∈ lw_all := lw_g (lw_at lw_m2 27 rfl) rfl
theorem q366 : (Jvm.Cond.fieldLink "OpenGates" (60 : Nat) "OpenGates" "undoneWhat" "[I") ∈ lw_all := lw_g (lw_at lw_m2 28 rfl) rfl
theorem q367 : (Jvm.Cond.fieldLink "OpenGates" (63 : Nat) "OpenGates" "ordersWhat" "[I") ∈ lw_all := lw_g (lw_at lw_m2 29 rfl) rfl
theorem q368 : (Jvm.Cond.fieldLink "OpenGates" (67 : Nat) "OpenGates" "ahead" "LOpenGates$Table;") ∈ lw_all := lw_g (lw_at lw_m2 30 rfl) rfl
theorem q369 : (Jvm.Cond.fieldLink "OpenGates" (71 : Nat) "OpenGates" "tape" "[B") ∈ lw_all := lw_g (lw_at lw_m2 31 rfl) rfl
theorem q370 : (Jvm.Cond.fieldLink "OpenGates" (189 : Nat) "OpenGates" "taped" "I") ∈ lw_all := lw_g (lw_at lw_m2 32 rfl) rfl
theorem q371 : (Jvm.Cond.fieldLink "OpenGates" (75 : Nat) "OpenGates" "fault" "I") ∈ lw_all := lw_g (lw_at lw_m2 33 rfl) rfl
theorem q372 : (Jvm.Cond.fieldLink "OpenGates" (196 : Nat) "OpenGates" "brooms" "I") ∈ lw_all := lw_g (lw_at lw_m2 34 rfl) rfl
theorem q373 : (Jvm.Cond.fieldLink "OpenGates" (78 : Nat) "OpenGates" "stopped" "I") ∈ lw_all := lw_g (lw_at lw_m2 35 rfl) rfl
theorem q374 : (Jvm.Cond.fieldLink "OpenGates" (106 : Nat) "OpenGates" "undoMany" "I") ∈ lw_all := lw_g (lw_at lw_m2 36 rfl) rfl
theorem q375 : (Jvm.Cond.fieldLink "OpenGates" (84 : Nat) "OpenGates" "setting" "LOpenGates$Setting;") ∈ lw_all := lw_g (lw_at lw_m2 37 rfl) rfl
theorem q376 : (Jvm.Cond.fieldLink "OpenGates" (88 : Nat) "OpenGates" "hours" "[I") ∈ lw_all := lw_g (lw_at lw_m2 38 rfl) rfl
theorem q377 : (Jvm.Cond.fieldLink "OpenGates" (91 : Nat) "OpenGates" "best" "[I") ∈ lw_all := lw_g (lw_at lw_m2 39 rfl) rfl
theorem q378 : (Jvm.Cond.fieldLink "OpenGates" (94 : Nat) "OpenGates" "alike" "[I") ∈ lw_all := lw_g (lw_at lw_m2 40 rfl) rfl
theorem q379 : (Jvm.Cond.fieldLink "OpenGates" (97 : Nat) "OpenGates" "drawnTable" "LOpenGates$Table;") ∈ lw_all := lw_g (lw_at lw_m2 41 rfl) rfl
theorem q380 : (Jvm.Cond.fieldLink "OpenGates" (100 : Nat) "OpenGates" "drawnMany" "I") ∈ lw_all := lw_g (lw_at lw_m2 42 rfl) rfl
theorem q381 : (Jvm.Cond.fieldLink "OpenGates" (433 : Nat) "OpenGates" "drawn" "I") ∈ lw_all := lw_g (lw_at lw_m2 43 rfl) rfl
theorem q382 : (Jvm.Cond.lays "OpenGates" "OpenGates" "status" "I") ∈ lw_all := lw_g (lw_at lw_m2 44 rfl) rfl
theorem q383 : (Jvm.Cond.soleField "OpenGates" "status") ∈ lw_all := lw_g (lw_at lw_m2 45 rfl) rfl
theorem q384 : (Jvm.Cond.laysFinal "OpenGates" "OpenGates" "refused" "[I") ∈ lw_all := lw_g (lw_at lw_m2 46 rfl) rfl
theorem q385 : (Jvm.Cond.soleField "OpenGates" "refused") ∈ lw_all := lw_g (lw_at lw_m2 47 rfl) rfl
theorem q386 : (Jvm.Cond.laysFinal "OpenGates" "OpenGates" "state" "LOpenGates$State;") ∈ lw_all := lw_g (lw_at lw_m2 48 rfl) rfl
theorem q387 : (Jvm.Cond.soleField "OpenGates" "state") ∈ lw_all := lw_g (lw_at lw_m2 49 rfl) rfl
theorem q388 : (Jvm.Cond.laysFinal "OpenGates" "OpenGates" "images" "[LOpenGates$State;") ∈ lw_all := lw_g (lw_at lw_m2 50 rfl) rfl
theorem q389 : (Jvm.Cond.soleField "OpenGates" "images") ∈ lw_all := lw_g (lw_at lw_m2 51 rfl) rfl
theorem q390 : (Jvm.Cond.laysFinal "OpenGates" "OpenGates" "undone" "[LOpenGates$Table;") ∈ lw_all := lw_g (lw_at lw_m2 52 rfl) rfl
theorem q391 : (Jvm.Cond.soleField "OpenGates" "undone") ∈ lw_all := lw_g (lw_at lw_m2 53 rfl) rfl
theorem q392 : (Jvm.Cond.laysFinal "OpenGates" "OpenGates" "ordersUndone" "[LOpenGates$Table;") ∈ lw_all := lw_g (lw_at lw_m2 54 rfl) rfl
theorem q393 : (Jvm.Cond.soleField "OpenGates" "ordersUndone") ∈ lw_all := lw_g (lw_at lw_m2 55 rfl) rfl
theorem q394 : (Jvm.Cond.laysFinal "OpenGates" "OpenGates" "undoneWhat" "[I") ∈ lw_all := lw_g (lw_at lw_m2 56 rfl) rfl
theorem q395 : (Jvm.Cond.soleField "OpenGates" "undoneWhat") ∈ lw_all := lw_g (lw_at lw_m2 57 rfl) rfl
theorem q396 : (Jvm.Cond.laysFinal "OpenGates" "OpenGates" "ordersWhat" "[I") ∈ lw_all := lw_g (lw_at lw_m2 58 rfl) rfl
theorem q397 : (Jvm.Cond.soleField "OpenGates" "ordersWhat") ∈ lw_all := lw_g (lw_at lw_m2 59 rfl) rfl
theorem q398 : (Jvm.Cond.laysFinal "OpenGates" "OpenGates" "ahead" "LOpenGates$Table;") ∈ lw_all := lw_g (lw_at lw_m2 60 rfl) rfl
theorem q399 : (Jvm.Cond.soleField "OpenGates" "ahead") ∈ lw_all := lw_g (lw_at lw_m2 61 rfl) rfl
theorem q400 : (Jvm.Cond.laysFinal "OpenGates" "OpenGates" "tape" "[B") ∈ lw_all := lw_g (lw_at lw_m2 62 rfl) rfl
theorem q401 : (Jvm.Cond.soleField "OpenGates" "tape") ∈ lw_all := lw_g (lw_at lw_m2 63 rfl) rfl
theorem q402 : (Jvm.Cond.lays "OpenGates" "OpenGates" "taped" "I") ∈ lw_all := lw_g (lw_at lw_m2 64 rfl) rfl
theorem q403 : (Jvm.Cond.soleField "OpenGates" "taped") ∈ lw_all := lw_g (lw_at lw_m2 65 rfl) rfl
theorem q404 : (Jvm.Cond.lays "OpenGates" "OpenGates" "fault" "I") ∈ lw_all := lw_g (lw_at lw_m2 66 rfl) rfl
theorem q405 : (Jvm.Cond.soleField "OpenGates" "fault") ∈ lw_all := lw_g (lw_at lw_m2 67 rfl) rfl
theorem q406 : (Jvm.Cond.lays "OpenGates" "OpenGates" "brooms" "I") ∈ lw_all := lw_g (lw_at lw_m2 68 rfl) rfl
theorem q407 : (Jvm.Cond.soleField "OpenGates" "brooms") ∈ lw_all := lw_g (lw_at lw_m2 69 rfl) rfl
theorem q408 : (Jvm.Cond.lays "OpenGates" "OpenGates" "stopped" "I") ∈ lw_all := lw_g (lw_at lw_m2 70 rfl) rfl
theorem q409 : (Jvm.Cond.soleField "OpenGates" "stopped") ∈ lw_all := lw_g (lw_at lw_m2 71 rfl) rfl
theorem q410 : (Jvm.Cond.lays "OpenGates" "OpenGates" "undoMany" "I") ∈ lw_all := lw_g (lw_at lw_m2 72 rfl) rfl
theorem q411 : (Jvm.Cond.soleField "OpenGates" "undoMany") ∈ lw_all := lw_g (lw_at lw_m2 73 rfl) rfl
theorem q412 : (Jvm.Cond.laysFinal "OpenGates" "OpenGates" "setting" "LOpenGates$Setting;") ∈ lw_all := lw_g (lw_at lw_m2 74 rfl) rfl
theorem q413 : (Jvm.Cond.soleField "OpenGates" "setting") ∈ lw_all := lw_g (lw_at lw_m2 75 rfl) rfl
theorem q414 : (Jvm.Cond.laysFinal "OpenGates" "OpenGates" "hours" "[I") ∈ lw_all := lw_g (lw_at lw_m2 76 rfl) rfl
theorem q415 : (Jvm.Cond.soleField "OpenGates" "hours") ∈ lw_all := lw_g (lw_at lw_m2 77 rfl) rfl
theorem q416 : (Jvm.Cond.laysFinal "OpenGates" "OpenGates" "best" "[I") ∈ lw_all := lw_g (lw_at lw_m2 78 rfl) rfl
theorem q417 : (Jvm.Cond.soleField "OpenGates" "best") ∈ lw_all := lw_g (lw_at lw_m2 79 rfl) rfl
theorem q418 : (Jvm.Cond.laysFinal "OpenGates" "OpenGates" "alike" "[I") ∈ lw_all := lw_g (lw_at lw_m2 80 rfl) rfl
theorem q419 : (Jvm.Cond.soleField "OpenGates" "alike") ∈ lw_all := lw_g (lw_at lw_m2 81 rfl) rfl
theorem q420 : (Jvm.Cond.laysFinal "OpenGates" "OpenGates" "drawnTable" "LOpenGates$Table;") ∈ lw_all := lw_g (lw_at lw_m2 82 rfl) rfl
theorem q421 : (Jvm.Cond.soleField "OpenGates" "drawnTable") ∈ lw_all := lw_g (lw_at lw_m2 83 rfl) rfl
theorem q422 : (Jvm.Cond.lays "OpenGates" "OpenGates" "drawnMany" "I") ∈ lw_all := lw_g (lw_at lw_m2 84 rfl) rfl
theorem q423 : (Jvm.Cond.soleField "OpenGates" "drawnMany") ∈ lw_all := lw_g (lw_at lw_m2 85 rfl) rfl
theorem q424 : (Jvm.Cond.lays "OpenGates" "OpenGates" "drawn" "I") ∈ lw_all := lw_g (lw_at lw_m2 86 rfl) rfl
theorem q425 : (Jvm.Cond.soleField "OpenGates" "drawn") ∈ lw_all := lw_g (lw_at lw_m2 87 rfl) rfl
theorem q426 : (Jvm.Cond.superclass "OpenGates" "java/lang/Object") ∈ lw_all := lw_g (lw_at lw_m2 88 rfl) rfl
theorem q428 : (Jvm.Cond.instanceMethod ({ cls := "OpenGates", name := "image", desc := "(I)I" } : Jvm.MethodName)) ∈ lw_all := lw_g (lw_at lw_m2 90 rfl) rfl
theorem q429 : (Jvm.Cond.selects "OpenGates" ({ cls := "OpenGates", name := "image", desc := "(I)I" } : Jvm.MethodName) ({ cls := "OpenGates", name := "image", desc := "(I)I" } : Jvm.MethodName)) ∈ lw_all := lw_g (lw_at lw_m2 91 rfl) rfl
theorem q430 : (Jvm.Cond.code ({ cls := "OpenGates", name := "image", desc := "(I)I" } : Jvm.MethodName) prog_1_method_16_code (2 : Nat) (Option.some Jvm.ClassFile.FieldType.int)) ∈ lw_all := lw_g (lw_at lw_m2 92 rfl) rfl
theorem q431 : (Jvm.Cond.methodLink "OpenGates" (26 : Nat) ({ cls := "OpenGates", name := "in", desc := "(III)Z" } : Jvm.MethodName)) ∈ lw_all := lw_g (lw_at lw_m2 93 rfl) rfl
theorem q432 : (Jvm.Cond.static ({ cls := "OpenGates", name := "in", desc := "(III)Z" } : Jvm.MethodName)) ∈ lw_all := lw_g (lw_at lw_m2 94 rfl) rfl
theorem q433 : (Jvm.Cond.code ({ cls := "OpenGates", name := "in", desc := "(III)Z" } : Jvm.MethodName) prog_1_method_3_code (3 : Nat) (Option.some Jvm.ClassFile.FieldType.boolean)) ∈ lw_all := lw_g (lw_at lw_m2 95 rfl) rfl
theorem q434 : (Jvm.Cond.methodLink "OpenGates" (115 : Nat) ({ cls := "OpenGates", name := "refuse", desc := "(I)I" } : Jvm.MethodName)) ∈ lw_all := lw_g (lw_at lw_m2 96 rfl) rfl
theorem q435 : (Jvm.Cond.privateMethod ({ cls := "OpenGates", name := "refuse", desc := "(I)I" } : Jvm.MethodName)) ∈ lw_tbl := lw_at lw_m2 97 rfl
theorem q436 : (Jvm.Cond.instanceMethod ({ cls := "OpenGates", name := "refuse", desc := "(I)I" } : Jvm.MethodName)) ∈ lw_all := lw_g (lw_at lw_m2 98 rfl) rfl
theorem q437 : (Jvm.Cond.code ({ cls := "OpenGates", name := "refuse", desc := "(I)I" } : Jvm.MethodName) prog_1_method_1_code (2 : Nat) (Option.some Jvm.ClassFile.FieldType.int)) ∈ lw_all := lw_g (lw_at lw_m2 99 rfl) rfl
theorem q438 : (Jvm.Cond.methodLink "OpenGates" (118 : Nat) ({ cls := "OpenGates$State", name := "takes", desc := "(LOpenGates$State;)V" } : Jvm.MethodName)) ∈ lw_all := lw_g (lw_at lw_m2 100 rfl) rfl
theorem q477 : (Jvm.Cond.selects "OpenGates" ({ cls := "java/lang/Object", name := "getClass", desc := "()Ljava/lang/Class;" } : Jvm.MethodName) ({ cls := "java/lang/Object", name := "getClass", desc := "()Ljava/lang/Class;" } : Jvm.MethodName)) ∈ lw_all := lw_g (lw_at lw_m2 139 rfl) rfl
theorem q524 : (Jvm.Cond.methodLink "OpenGates" (109 : Nat) ({ cls := "OpenGates", name := "done", desc := "(I)I" } : Jvm.MethodName)) ∈ lw_all := lw_g (lw_at lw_m2 186 rfl) rfl
theorem q525 : (Jvm.Cond.privateMethod ({ cls := "OpenGates", name := "done", desc := "(I)I" } : Jvm.MethodName)) ∈ lw_tbl := lw_at lw_m2 187 rfl
theorem q526 : (Jvm.Cond.instanceMethod ({ cls := "OpenGates", name := "done", desc := "(I)I" } : Jvm.MethodName)) ∈ lw_all := lw_g (lw_at lw_m2 188 rfl) rfl
theorem q527 : (Jvm.Cond.code ({ cls := "OpenGates", name := "done", desc := "(I)I" } : Jvm.MethodName) prog_1_method_2_code (2 : Nat) (Option.some Jvm.ClassFile.FieldType.int)) ∈ lw_all := lw_g (lw_at lw_m2 189 rfl) rfl
theorem q529 : (Jvm.Cond.instanceMethod ({ cls := "OpenGates", name := "back", desc := "(I)I" } : Jvm.MethodName)) ∈ lw_all := lw_g (lw_at lw_m2 191 rfl) rfl
theorem q530 : (Jvm.Cond.selects "OpenGates" ({ cls := "OpenGates", name := "back", desc := "(I)I" } : Jvm.MethodName) ({ cls := "OpenGates", name := "back", desc := "(I)I" } : Jvm.MethodName)) ∈ lw_all := lw_g (lw_at lw_m2 192 rfl) rfl
theorem q531 : (Jvm.Cond.code ({ cls := "OpenGates", name := "back", desc := "(I)I" } : Jvm.MethodName) prog_1_method_17_code (2 : Nat) (Option.some Jvm.ClassFile.FieldType.int)) ∈ lw_all := lw_g (lw_at lw_m2 193 rfl) rfl
theorem q532 : (Jvm.Cond.methodLink "OpenGates" (122 : Nat) ({ cls := "OpenGates", name := "settled", desc := "(I)I" } : Jvm.MethodName)) ∈ lw_all := lw_g (lw_at lw_m2 194 rfl) rfl
theorem q533 : (Jvm.Cond.privateMethod ({ cls := "OpenGates", name := "settled", desc := "(I)I" } : Jvm.MethodName)) ∈ lw_tbl := lw_at lw_m2 195 rfl
theorem q534 : (Jvm.Cond.instanceMethod ({ cls := "OpenGates", name := "settled", desc := "(I)I" } : Jvm.MethodName)) ∈ lw_all := lw_g (lw_at lw_m2 196 rfl) rfl
theorem q535 : (Jvm.Cond.code ({ cls := "OpenGates", name := "settled", desc := "(I)I" } : Jvm.MethodName) prog_1_method_13_code (2 : Nat) (Option.some Jvm.ClassFile.FieldType.int)) ∈ lw_all := lw_g (lw_at lw_m2 197 rfl) rfl
theorem q537 : (Jvm.Cond.instanceMethod ({ cls := "OpenGates", name := "fort", desc := "(II)I" } : Jvm.MethodName)) ∈ lw_all := lw_g (lw_at lw_m2 199 rfl) rfl
theorem q538 : (Jvm.Cond.selects "OpenGates" ({ cls := "OpenGates", name := "fort", desc := "(II)I" } : Jvm.MethodName) ({ cls := "OpenGates", name := "fort", desc := "(II)I" } : Jvm.MethodName)) ∈ lw_all := lw_g (lw_at lw_m2 200 rfl) rfl
theorem q539 : (Jvm.Cond.code ({ cls := "OpenGates", name := "fort", desc := "(II)I" } : Jvm.MethodName) prog_1_method_20_code (3 : Nat) (Option.some Jvm.ClassFile.FieldType.int)) ∈ lw_all := lw_g (lw_at lw_m2 201 rfl) rfl
theorem q540 : (Jvm.Cond.methodLink "OpenGates" (144 : Nat) ({ cls := "OpenGates", name := "canBe", desc := "(II)Z" } : Jvm.MethodName)) ∈ lw_all := lw_g (lw_at lw_m2 202 rfl) rfl
theorem q541 : (Jvm.Cond.static ({ cls := "OpenGates", name := "canBe", desc := "(II)Z" } : Jvm.MethodName)) ∈ lw_all := lw_g (lw_at lw_m2 203 rfl) rfl
theorem q542 : (Jvm.Cond.code ({ cls := "OpenGates", name := "canBe", desc := "(II)Z" } : Jvm.MethodName) prog_1_method_18_code (2 : Nat) (Option.some Jvm.ClassFile.FieldType.boolean)) ∈ lw_all := lw_g (lw_at lw_m2 204 rfl) rfl
theorem q543 : (Jvm.Cond.methodLink "OpenGates" (125 : Nat) ({ cls := "OpenGates", name := "isGeneral", desc := "(I)Z" } : Jvm.MethodName)) ∈ lw_all := lw_g (lw_at lw_m2 205 rfl) rfl
theorem q544 : (Jvm.Cond.static ({ cls := "OpenGates", name := "isGeneral", desc := "(I)Z" } : Jvm.MethodName)) ∈ lw_all := lw_g (lw_at lw_m2 206 rfl) rfl
theorem q545 : (Jvm.Cond.code ({ cls := "OpenGates", name := "isGeneral", desc := "(I)Z" } : Jvm.MethodName) prog_1_method_15_code (1 : Nat) (Option.some Jvm.ClassFile.FieldType.boolean)) ∈ lw_all := lw_g (lw_at lw_m2 207 rfl) rfl
theorem q546 : (Jvm.Cond.methodLink "OpenGates" (148 : Nat) ({ cls := "OpenGates", name := "adds", desc := "(II)V" } : Jvm.MethodName)) ∈ lw_all := lw_g (lw_at lw_m2 208 rfl) rfl
theorem q547 : (Jvm.Cond.privateMethod ({ cls := "OpenGates", name := "adds", desc := "(II)V" } : Jvm.MethodName)) ∈ lw_tbl := lw_at lw_m2 209 rfl
theorem q548 : (Jvm.Cond.instanceMethod ({ cls := "OpenGates", name := "adds", desc := "(II)V" } : Jvm.MethodName)) ∈ lw_all := lw_g (lw_at lw_m2 210 rfl) rfl
theorem q549 : (Jvm.Cond.code ({ cls := "OpenGates", name := "adds", desc := "(II)V" } : Jvm.MethodName) prog_1_method_19_code (4 : Nat) (Option.none : Option Jvm.ClassFile.FieldType)) ∈ lw_all := lw_g (lw_at lw_m2 211 rfl) rfl
theorem q550 : (Jvm.Cond.methodLink "OpenGates" (132 : Nat) ({ cls := "OpenGates", name := "table", desc := "()LOpenGates$Table;" } : Jvm.MethodName)) ∈ lw_all := lw_g (lw_at lw_m2 212 rfl) rfl
theorem q551 : (Jvm.Cond.privateMethod ({ cls := "OpenGates", name := "table", desc := "()LOpenGates$Table;" } : Jvm.MethodName)) ∈ lw_tbl := lw_at lw_m2 213 rfl
theorem q552 : (Jvm.Cond.instanceMethod ({ cls := "OpenGates", name := "table", desc := "()LOpenGates$Table;" } : Jvm.MethodName)) ∈ lw_all := lw_g (lw_at lw_m2 214 rfl) rfl
theorem q553 : (Jvm.Cond.code ({ cls := "OpenGates", name := "table", desc := "()LOpenGates$Table;" } : Jvm.MethodName) prog_1_method_12_code (1 : Nat) (Option.some (Jvm.ClassFile.FieldType.object "OpenGates$Table"))) ∈ lw_all := lw_g (lw_at lw_m2 215 rfl) rfl
theorem q555 : (Jvm.Cond.instanceMethod ({ cls := "OpenGates", name := "of", desc := "(II)I" } : Jvm.MethodName)) ∈ lw_all := lw_g (lw_at lw_m2 217 rfl) rfl
theorem q556 : (Jvm.Cond.selects "OpenGates" ({ cls := "OpenGates", name := "of", desc := "(II)I" } : Jvm.MethodName) ({ cls := "OpenGates", name := "of", desc := "(II)I" } : Jvm.MethodName)) ∈ lw_all := lw_g (lw_at lw_m2 218 rfl) rfl
theorem q557 : (Jvm.Cond.code ({ cls := "OpenGates", name := "of", desc := "(II)I" } : Jvm.MethodName) prog_1_method_21_code (4 : Nat) (Option.some Jvm.ClassFile.FieldType.int)) ∈ lw_all := lw_g (lw_at lw_m2 219 rfl) rfl
theorem q558 : (Jvm.Cond.methodLink "OpenGates" (152 : Nat) ({ cls := "OpenGates", name := "isFort", desc := "(I)Z" } : Jvm.MethodName)) ∈ lw_all := lw_g (lw_at lw_m2 220 rfl) rfl
theorem q559 : (Jvm.Cond.privateMethod ({ cls := "OpenGates", name := "isFort", desc := "(I)Z" } : Jvm.MethodName)) ∈ lw_tbl := lw_at lw_m2 221 rfl
theorem q560 : (Jvm.Cond.instanceMethod ({ cls := "OpenGates", name := "isFort", desc := "(I)Z" } : Jvm.MethodName)) ∈ lw_all := lw_g (lw_at lw_m2 222 rfl) rfl
theorem q561 : (Jvm.Cond.code ({ cls := "OpenGates", name := "isFort", desc := "(I)Z" } : Jvm.MethodName) prog_1_method_14_code (2 : Nat) (Option.some Jvm.ClassFile.FieldType.boolean)) ∈ lw_all := lw_g (lw_at lw_m2 223 rfl) rfl
theorem q562 : (Jvm.Cond.methodLink "OpenGates" (155 : Nat) ({ cls := "OpenGates$Table", name := "isTaken", desc := "(I)Z" } : Jvm.MethodName)) ∈ lw_all := lw_g (lw_at lw_m2 224 rfl) rfl
theorem q567 : (Jvm.Cond.static ({ cls := "OpenGates", name := "isOf", desc := "(II)Z" } : Jvm.MethodName)) ∈ lw_all := lw_g (lw_at lw_m2 229 rfl) rfl
theorem q568 : (Jvm.Cond.code ({ cls := "OpenGates", name := "isOf", desc := "(II)Z" } : Jvm.MethodName) prog_1_method_4_code (2 : Nat) (Option.some Jvm.ClassFile.FieldType.boolean)) ∈ lw_all := lw_g (lw_at lw_m2 230 rfl) rfl
theorem q569 : (Jvm.Cond.methodLink "OpenGates" (158 : Nat) ({ cls := "OpenGates", name := "belief", desc := "(LOpenGates$Table;II)I" } : Jvm.MethodName)) ∈ lw_all := lw_g (lw_at lw_m2 231 rfl) rfl
theorem q570 : (Jvm.Cond.privateMethod ({ cls := "OpenGates", name := "belief", desc := "(LOpenGates$Table;II)I" } : Jvm.MethodName)) ∈ lw_tbl := lw_at lw_m2 232 rfl
theorem q571 : (Jvm.Cond.instanceMethod ({ cls := "OpenGates", name := "belief", desc := "(LOpenGates$Table;II)I" } : Jvm.MethodName)) ∈ lw_all := lw_g (lw_at lw_m2 233 rfl) rfl
theorem q572 : (Jvm.Cond.code ({ cls := "OpenGates", name := "belief", desc := "(LOpenGates$Table;II)I" } : Jvm.MethodName) prog_1_method_36_code (13 : Nat) (Option.some Jvm.ClassFile.FieldType.int)) ∈ lw_all := lw_g (lw_at lw_m2 234 rfl) rfl
theorem q573 : (Jvm.Cond.constantLong "OpenGates" (243 : Nat) (1000 : Int64)) ∈ lw_all := lw_g (lw_at lw_m2 235 rfl) rfl
theorem q574 : (Jvm.Cond.methodLink "OpenGates" (245 : Nat) ({ cls := "OpenGates", name := "isOf", desc := "(II)Z" } : Jvm.MethodName)) ∈ lw_all := lw_g (lw_at lw_m2 236 rfl) rfl
theorem q575 : (Jvm.Cond.constantLong "OpenGates" (248 : Nat) (1000000 : Int64)) ∈ lw_all := lw_g (lw_at lw_m2 237 rfl) rfl
theorem q576 : (Jvm.Cond.constantLong "OpenGates" (250 : Nat) (100 : Int64)) ∈ lw_all := lw_g (lw_at lw_m2 238 rfl) rfl
theorem q578 : (Jvm.Cond.instanceMethod ({ cls := "OpenGates", name := "sign", desc := "(III)I" } : Jvm.MethodName)) ∈ lw_all := lw_g (lw_at lw_m3 0 rfl) rfl
theorem q579 : (Jvm.Cond.selects "OpenGates" ({ cls := "OpenGates", name := "sign", desc := "(III)I" } : Jvm.MethodName) ({ cls := "OpenGates", name := "sign", desc := "(III)I" } : Jvm.MethodName)) ∈ lw_all := lw_g (lw_at lw_m3 1 rfl) rfl
theorem q580 : (Jvm.Cond.code ({ cls := "OpenGates", name := "sign", desc := "(III)I" } : Jvm.MethodName) prog_1_method_22_code (6 : Nat) (Option.some Jvm.ClassFile.FieldType.int)) ∈ lw_all := lw_g (lw_at lw_m3 2 rfl) rfl
theorem q581 : (Jvm.Cond.methodLink "OpenGates" (162 : Nat) ({ cls := "OpenGates", name := "isSign", desc := "(I)Z" } : Jvm.MethodName)) ∈ lw_all := lw_g (lw_at lw_m3 3 rfl) rfl
theorem q582 : (Jvm.Cond.static ({ cls := "OpenGates", name := "isSign", desc := "(I)Z" } : Jvm.MethodName)) ∈ lw_all := lw_g (lw_at lw_m3 4 rfl) rfl
theorem q583 : (Jvm.Cond.code ({ cls := "OpenGates", name := "isSign", desc := "(I)Z" } : Jvm.MethodName) prog_1_method_7_code (1 : Nat) (Option.some Jvm.ClassFile.FieldType.boolean)) ∈ lw_all := lw_g (lw_at lw_m3 5 rfl) rfl
theorem q585 : (Jvm.Cond.instanceMethod ({ cls := "OpenGates", name := "road", desc := "(III)I" } : Jvm.MethodName)) ∈ lw_all := lw_g (lw_at lw_m3 7 rfl) rfl
theorem q586 : (Jvm.Cond.selects "OpenGates" ({ cls := "OpenGates", name := "road", desc := "(III)I" } : Jvm.MethodName) ({ cls := "OpenGates", name := "road", desc := "(III)I" } : Jvm.MethodName)) ∈ lw_all := lw_g (lw_at lw_m3 8 rfl) rfl
theorem q587 : (Jvm.Cond.code ({ cls := "OpenGates", name := "road", desc := "(III)I" } : Jvm.MethodName) prog_1_method_23_code (5 : Nat) (Option.some Jvm.ClassFile.FieldType.int)) ∈ lw_all := lw_g (lw_at lw_m3 9 rfl) rfl
theorem q589 : (Jvm.Cond.instanceMethod ({ cls := "OpenGates", name := "fame", desc := "(II)I" } : Jvm.MethodName)) ∈ lw_all := lw_g (lw_at lw_m3 11 rfl) rfl
theorem q590 : (Jvm.Cond.selects "OpenGates" ({ cls := "OpenGates", name := "fame", desc := "(II)I" } : Jvm.MethodName) ({ cls := "OpenGates", name := "fame", desc := "(II)I" } : Jvm.MethodName)) ∈ lw_all := lw_g (lw_at lw_m3 12 rfl) rfl
theorem q591 : (Jvm.Cond.code ({ cls := "OpenGates", name := "fame", desc := "(II)I" } : Jvm.MethodName) prog_1_method_24_code (4 : Nat) (Option.some Jvm.ClassFile.FieldType.int)) ∈ lw_all := lw_g (lw_at lw_m3 13 rfl) rfl
theorem q593 : (Jvm.Cond.instanceMethod ({ cls := "OpenGates", name := "terms", desc := "(II)I" } : Jvm.MethodName)) ∈ lw_all := lw_g (lw_at lw_m3 15 rfl) rfl
theorem q594 : (Jvm.Cond.selects "OpenGates" ({ cls := "OpenGates", name := "terms", desc := "(II)I" } : Jvm.MethodName) ({ cls := "OpenGates", name := "terms", desc := "(II)I" } : Jvm.MethodName)) ∈ lw_all := lw_g (lw_at lw_m3 16 rfl) rfl
theorem q595 : (Jvm.Cond.code ({ cls := "OpenGates", name := "terms", desc := "(II)I" } : Jvm.MethodName) prog_1_method_25_code (4 : Nat) (Option.some Jvm.ClassFile.FieldType.int)) ∈ lw_all := lw_g (lw_at lw_m3 17 rfl) rfl
theorem q597 : (Jvm.Cond.instanceMethod ({ cls := "OpenGates", name := "feed", desc := "(IIIII)I" } : Jvm.MethodName)) ∈ lw_all := lw_g (lw_at lw_m3 19 rfl) rfl
theorem q598 : (Jvm.Cond.selects "OpenGates" ({ cls := "OpenGates", name := "feed", desc := "(IIIII)I" } : Jvm.MethodName) ({ cls := "OpenGates", name := "feed", desc := "(IIIII)I" } : Jvm.MethodName)) ∈ lw_all := lw_g (lw_at lw_m3 20 rfl) rfl
theorem q599 : (Jvm.Cond.code ({ cls := "OpenGates", name := "feed", desc := "(IIIII)I" } : Jvm.MethodName) prog_1_method_26_code (6 : Nat) (Option.some Jvm.ClassFile.FieldType.int)) ∈ lw_all := lw_g (lw_at lw_m3 21 rfl) rfl
theorem q600 : (Jvm.Cond.methodLink "OpenGates" (192 : Nat) ({ cls := "OpenGates", name := "four", desc := "(I)V" } : Jvm.MethodName)) ∈ lw_all := lw_g (lw_at lw_m3 22 rfl) rfl
theorem q601 : (Jvm.Cond.privateMethod ({ cls := "OpenGates", name := "four", desc := "(I)V" } : Jvm.MethodName)) ∈ lw_tbl := lw_at lw_m3 23 rfl
theorem q602 : (Jvm.Cond.instanceMethod ({ cls := "OpenGates", name := "four", desc := "(I)V" } : Jvm.MethodName)) ∈ lw_all := lw_g (lw_at lw_m3 24 rfl) rfl
theorem q603 : (Jvm.Cond.code ({ cls := "OpenGates", name := "four", desc := "(I)V" } : Jvm.MethodName) prog_1_method_27_code (3 : Nat) (Option.none : Option Jvm.ClassFile.FieldType)) ∈ lw_all := lw_g (lw_at lw_m3 25 rfl) rfl
theorem q605 : (Jvm.Cond.instanceMethod ({ cls := "OpenGates", name := "end", desc := "(I)I" } : Jvm.MethodName)) ∈ lw_all := lw_g (lw_at lw_m3 27 rfl) rfl
theorem q606 : (Jvm.Cond.selects "OpenGates" ({ cls := "OpenGates", name := "end", desc := "(I)I" } : Jvm.MethodName) ({ cls := "OpenGates", name := "end", desc := "(I)I" } : Jvm.MethodName)) ∈ lw_all := lw_g (lw_at lw_m3 28 rfl) rfl
theorem q607 : (Jvm.Cond.code ({ cls := "OpenGates", name := "end", desc := "(I)I" } : Jvm.MethodName) prog_1_method_28_code (2 : Nat) (Option.some Jvm.ClassFile.FieldType.int)) ∈ lw_all := lw_g (lw_at lw_m3 29 rfl) rfl
theorem q609 : (Jvm.Cond.instanceMethod ({ cls := "OpenGates", name := "row", desc := "()I" } : Jvm.MethodName)) ∈ lw_all := lw_g (lw_at lw_m3 31 rfl) rfl
theorem q610 : (Jvm.Cond.selects "OpenGates" ({ cls := "OpenGates", name := "row", desc := "()I" } : Jvm.MethodName) ({ cls := "OpenGates", name := "row", desc := "()I" } : Jvm.MethodName)) ∈ lw_all := lw_g (lw_at lw_m3 32 rfl) rfl
theorem q611 : (Jvm.Cond.code ({ cls := "OpenGates", name := "row", desc := "()I" } : Jvm.MethodName) prog_1_method_29_code (5 : Nat) (Option.some Jvm.ClassFile.FieldType.int)) ∈ lw_all := lw_g (lw_at lw_m3 33 rfl) rfl
theorem q613 : (Jvm.Cond.instanceMethod ({ cls := "OpenGates", name := "brooms", desc := "()I" } : Jvm.MethodName)) ∈ lw_all := lw_g (lw_at lw_m3 35 rfl) rfl
theorem q614 : (Jvm.Cond.selects "OpenGates" ({ cls := "OpenGates", name := "brooms", desc := "()I" } : Jvm.MethodName) ({ cls := "OpenGates", name := "brooms", desc := "()I" } : Jvm.MethodName)) ∈ lw_all := lw_g (lw_at lw_m3 36 rfl) rfl
theorem q615 : (Jvm.Cond.code ({ cls := "OpenGates", name := "brooms", desc := "()I" } : Jvm.MethodName) prog_1_method_30_code (1 : Nat) (Option.some Jvm.ClassFile.FieldType.int)) ∈ lw_all := lw_g (lw_at lw_m3 37 rfl) rfl
theorem q617 : (Jvm.Cond.instanceMethod ({ cls := "OpenGates", name := "law", desc := "()I" } : Jvm.MethodName)) ∈ lw_all := lw_g (lw_at lw_m3 39 rfl) rfl
theorem q618 : (Jvm.Cond.selects "OpenGates" ({ cls := "OpenGates", name := "law", desc := "()I" } : Jvm.MethodName) ({ cls := "OpenGates", name := "law", desc := "()I" } : Jvm.MethodName)) ∈ lw_all := lw_g (lw_at lw_m3 40 rfl) rfl
theorem q619 : (Jvm.Cond.code ({ cls := "OpenGates", name := "law", desc := "()I" } : Jvm.MethodName) prog_1_method_32_code (3 : Nat) (Option.some Jvm.ClassFile.FieldType.int)) ∈ lw_all := lw_g (lw_at lw_m3 41 rfl) rfl
theorem q620 : (Jvm.Cond.methodLink "OpenGates" (213 : Nat) ({ cls := "java/util/ArrayList", name := "size", desc := "()I" } : Jvm.MethodName)) ∈ lw_all := lw_g (lw_at lw_m3 42 rfl) rfl
theorem q624 : (Jvm.Cond.classLink "OpenGates" (219 : Nat) "OpenGates$LawReader") ∈ lw_all := lw_g (lw_at lw_m3 46 rfl) rfl
theorem q626 : (Jvm.Cond.methodLink "OpenGates" (221 : Nat) ({ cls := "OpenGates$LawReader", name := "<init>", desc := "([BI)V" } : Jvm.MethodName)) ∈ lw_all := lw_g (lw_at lw_m3 48 rfl) rfl
theorem q636 : (Jvm.Cond.fieldLinkNest "OpenGates" (230 : Nat) "OpenGates$LawReader" "clauses" "Ljava/util/ArrayList;" "OpenGates") ∈ lw_tbl := lw_at lw_m3 58 rfl
theorem q661 : (Jvm.Cond.methodLink "OpenGates" (224 : Nat) ({ cls := "OpenGates", name := "reads", desc := "(LOpenGates$Reader;)Z" } : Jvm.MethodName)) ∈ lw_all := lw_g (lw_at lw_m3 83 rfl) rfl
theorem q662 : (Jvm.Cond.privateMethod ({ cls := "OpenGates", name := "reads", desc := "(LOpenGates$Reader;)Z" } : Jvm.MethodName)) ∈ lw_tbl := lw_at lw_m3 84 rfl
theorem q663 : (Jvm.Cond.instanceMethod ({ cls := "OpenGates", name := "reads", desc := "(LOpenGates$Reader;)Z" } : Jvm.MethodName)) ∈ lw_all := lw_g (lw_at lw_m3 85 rfl) rfl
theorem q664 : (Jvm.Cond.codeWith ({ cls := "OpenGates", name := "reads", desc := "(LOpenGates$Reader;)Z" } : Jvm.MethodName) prog_1_method_31_code (3 : Nat) (Option.some Jvm.ClassFile.FieldType.boolean) [((0 : Nat), (4 : Nat), (7 : Nat), (204 : Nat))]) ∈ lw_all := lw_g (lw_at lw_m3 86 rfl) rfl
theorem q665 : (Jvm.Cond.classLink "OpenGates" (204 : Nat) "OpenGates$Fault") ∈ lw_all := lw_g (lw_at lw_m3 87 rfl) rfl
theorem q666 : (Jvm.Cond.methodLink "OpenGates" (199 : Nat) ({ cls := "OpenGates$Reader", name := "read", desc := "()V" } : Jvm.MethodName)) ∈ lw_all := lw_g (lw_at lw_m3 88 rfl) rfl
theorem q768 : (Jvm.Cond.fieldLinkNest "OpenGates" (206 : Nat) "OpenGates$Fault" "place" "I" "OpenGates") ∈ lw_tbl := lw_at lw_m3 190 rfl
theorem q1049 : (Jvm.Cond.fieldLinkNest "OpenGates" (420 : Nat) "OpenGates$Order" "head" "I" "OpenGates") ∈ lw_tbl := lw_at lw_m4 231 rfl
theorem q1051 : (Jvm.Cond.fieldLinkNest "OpenGates" (423 : Nat) "OpenGates$Order" "one" "LOpenGates$Sum;" "OpenGates") ∈ lw_tbl := lw_at lw_m4 233 rfl
theorem q1053 : (Jvm.Cond.fieldLinkNest "OpenGates" (430 : Nat) "OpenGates$Order" "other" "LOpenGates$Sum;" "OpenGates") ∈ lw_tbl := lw_at lw_m4 235 rfl
theorem q1056 : (Jvm.Cond.fieldLinkNest "OpenGates" (403 : Nat) "OpenGates$Order" "times" "I" "OpenGates") ∈ lw_tbl := lw_at lw_m4 238 rfl
theorem q1090 : (Jvm.Cond.classLink "OpenGates" (228 : Nat) "OpenGates$Law") ∈ lw_all := lw_g (lw_at lw_m5 32 rfl) rfl
theorem q1092 : (Jvm.Cond.methodLink "OpenGates" (233 : Nat) ({ cls := "OpenGates$Law", name := "<init>", desc := "(Ljava/util/ArrayList;)V" } : Jvm.MethodName)) ∈ lw_all := lw_g (lw_at lw_m5 34 rfl) rfl
theorem q1100 : (Jvm.Cond.methodLink "OpenGates" (236 : Nat) ({ cls := "java/util/ArrayList", name := "add", desc := "(Ljava/lang/Object;)Z" } : Jvm.MethodName)) ∈ lw_all := lw_g (lw_at lw_m5 42 rfl) rfl
theorem q1102 : (Jvm.Cond.instanceMethod ({ cls := "OpenGates", name := "fault", desc := "()I" } : Jvm.MethodName)) ∈ lw_all := lw_g (lw_at lw_m5 44 rfl) rfl
theorem q1103 : (Jvm.Cond.selects "OpenGates" ({ cls := "OpenGates", name := "fault", desc := "()I" } : Jvm.MethodName) ({ cls := "OpenGates", name := "fault", desc := "()I" } : Jvm.MethodName)) ∈ lw_all := lw_g (lw_at lw_m5 45 rfl) rfl
theorem q1104 : (Jvm.Cond.code ({ cls := "OpenGates", name := "fault", desc := "()I" } : Jvm.MethodName) prog_1_method_33_code (1 : Nat) (Option.some Jvm.ClassFile.FieldType.int)) ∈ lw_all := lw_g (lw_at lw_m5 46 rfl) rfl
theorem q1106 : (Jvm.Cond.instanceMethod ({ cls := "OpenGates", name := "stopped", desc := "()I" } : Jvm.MethodName)) ∈ lw_all := lw_g (lw_at lw_m5 48 rfl) rfl
theorem q1107 : (Jvm.Cond.selects "OpenGates" ({ cls := "OpenGates", name := "stopped", desc := "()I" } : Jvm.MethodName) ({ cls := "OpenGates", name := "stopped", desc := "()I" } : Jvm.MethodName)) ∈ lw_all := lw_g (lw_at lw_m5 49 rfl) rfl
theorem q1108 : (Jvm.Cond.code ({ cls := "OpenGates", name := "stopped", desc := "()I" } : Jvm.MethodName) prog_1_method_34_code (1 : Nat) (Option.some Jvm.ClassFile.FieldType.int)) ∈ lw_all := lw_g (lw_at lw_m5 50 rfl) rfl
theorem q1110 : (Jvm.Cond.instanceMethod ({ cls := "OpenGates", name := "force", desc := "(I)I" } : Jvm.MethodName)) ∈ lw_all := lw_g (lw_at lw_m5 52 rfl) rfl
theorem q1111 : (Jvm.Cond.selects "OpenGates" ({ cls := "OpenGates", name := "force", desc := "(I)I" } : Jvm.MethodName) ({ cls := "OpenGates", name := "force", desc := "(I)I" } : Jvm.MethodName)) ∈ lw_all := lw_g (lw_at lw_m5 53 rfl) rfl
theorem q1112 : (Jvm.Cond.code ({ cls := "OpenGates", name := "force", desc := "(I)I" } : Jvm.MethodName) prog_1_method_35_code (3 : Nat) (Option.some Jvm.ClassFile.FieldType.int)) ∈ lw_all := lw_g (lw_at lw_m5 54 rfl) rfl
theorem q1114 : (Jvm.Cond.instanceMethod ({ cls := "OpenGates", name := "asks", desc := "(III)I" } : Jvm.MethodName)) ∈ lw_all := lw_g (lw_at lw_m5 56 rfl) rfl
theorem q1115 : (Jvm.Cond.selects "OpenGates" ({ cls := "OpenGates", name := "asks", desc := "(III)I" } : Jvm.MethodName) ({ cls := "OpenGates", name := "asks", desc := "(III)I" } : Jvm.MethodName)) ∈ lw_all := lw_g (lw_at lw_m5 57 rfl) rfl
theorem q1116 : (Jvm.Cond.code ({ cls := "OpenGates", name := "asks", desc := "(III)I" } : Jvm.MethodName) prog_1_method_43_code (5 : Nat) (Option.some Jvm.ClassFile.FieldType.int)) ∈ lw_all := lw_g (lw_at lw_m5 58 rfl) rfl
theorem q1117 : (Jvm.Cond.methodLink "OpenGates" (282 : Nat) ({ cls := "OpenGates", name := "isArmy", desc := "(I)Z" } : Jvm.MethodName)) ∈ lw_all := lw_g (lw_at lw_m5 59 rfl) rfl
theorem q1118 : (Jvm.Cond.static ({ cls := "OpenGates", name := "isArmy", desc := "(I)Z" } : Jvm.MethodName)) ∈ lw_all := lw_g (lw_at lw_m5 60 rfl) rfl
theorem q1119 : (Jvm.Cond.code ({ cls := "OpenGates", name := "isArmy", desc := "(I)Z" } : Jvm.MethodName) prog_1_method_9_code (1 : Nat) (Option.some Jvm.ClassFile.FieldType.boolean)) ∈ lw_all := lw_g (lw_at lw_m5 61 rfl) rfl
theorem q1120 : (Jvm.Cond.methodLink "OpenGates" (285 : Nat) ({ cls := "OpenGates", name := "pays", desc := "(II)I" } : Jvm.MethodName)) ∈ lw_all := lw_g (lw_at lw_m5 62 rfl) rfl
theorem q1121 : (Jvm.Cond.privateMethod ({ cls := "OpenGates", name := "pays", desc := "(II)I" } : Jvm.MethodName)) ∈ lw_tbl := lw_at lw_m5 63 rfl
theorem q1122 : (Jvm.Cond.instanceMethod ({ cls := "OpenGates", name := "pays", desc := "(II)I" } : Jvm.MethodName)) ∈ lw_all := lw_g (lw_at lw_m5 64 rfl) rfl
theorem q1123 : (Jvm.Cond.code ({ cls := "OpenGates", name := "pays", desc := "(II)I" } : Jvm.MethodName) prog_1_method_39_code (3 : Nat) (Option.some Jvm.ClassFile.FieldType.int)) ∈ lw_all := lw_g (lw_at lw_m5 65 rfl) rfl
theorem q1124 : (Jvm.Cond.methodLink "OpenGates" (270 : Nat) ({ cls := "OpenGates", name := "says", desc := "(ILOpenGates$Table;IIIII)J" } : Jvm.MethodName)) ∈ lw_all := lw_g (lw_at lw_m5 66 rfl) rfl
theorem q1125 : (Jvm.Cond.privateMethod ({ cls := "OpenGates", name := "says", desc := "(ILOpenGates$Table;IIIII)J" } : Jvm.MethodName)) ∈ lw_tbl := lw_at lw_m5 67 rfl
theorem q1126 : (Jvm.Cond.instanceMethod ({ cls := "OpenGates", name := "says", desc := "(ILOpenGates$Table;IIIII)J" } : Jvm.MethodName)) ∈ lw_all := lw_g (lw_at lw_m5 68 rfl) rfl
theorem q1127 : (Jvm.Cond.code ({ cls := "OpenGates", name := "says", desc := "(ILOpenGates$Table;IIIII)J" } : Jvm.MethodName) prog_1_method_37_code (9 : Nat) (Option.some Jvm.ClassFile.FieldType.long)) ∈ lw_all := lw_g (lw_at lw_m5 69 rfl) rfl
theorem q1128 : (Jvm.Cond.constantLong "OpenGates" (252 : Nat) (-4000000000 : Int64)) ∈ lw_all := lw_g (lw_at lw_m5 70 rfl) rfl
theorem q1129 : (Jvm.Cond.methodLink "OpenGates" (258 : Nat) ({ cls := "java/util/ArrayList", name := "get", desc := "(I)Ljava/lang/Object;" } : Jvm.MethodName)) ∈ lw_all := lw_g (lw_at lw_m5 71 rfl) rfl
theorem q1141 : (Jvm.Cond.methodLink "OpenGates" (262 : Nat) ({ cls := "OpenGates$Law", name := "told", desc := "(ILOpenGates$Setting;)J" } : Jvm.MethodName)) ∈ lw_all := lw_g (lw_at lw_m5 83 rfl) rfl
theorem q1188 : (Jvm.Cond.methodLink "OpenGates" (274 : Nat) ({ cls := "OpenGates", name := "or", desc := "(JIII)I" } : Jvm.MethodName)) ∈ lw_all := lw_g (lw_at lw_m5 130 rfl) rfl
theorem q1189 : (Jvm.Cond.static ({ cls := "OpenGates", name := "or", desc := "(JIII)I" } : Jvm.MethodName)) ∈ lw_all := lw_g (lw_at lw_m5 131 rfl) rfl
theorem q1190 : (Jvm.Cond.code ({ cls := "OpenGates", name := "or", desc := "(JIII)I" } : Jvm.MethodName) prog_1_method_38_code (5 : Nat) (Option.some Jvm.ClassFile.FieldType.int)) ∈ lw_all := lw_g (lw_at lw_m5 132 rfl) rfl
theorem q1191 : (Jvm.Cond.methodLink "OpenGates" (266 : Nat) ({ cls := "OpenGates", name := "near", desc := "(JII)I" } : Jvm.MethodName)) ∈ lw_all := lw_g (lw_at lw_m5 133 rfl) rfl
theorem q1192 : (Jvm.Cond.static ({ cls := "OpenGates", name := "near", desc := "(JII)I" } : Jvm.MethodName)) ∈ lw_all := lw_g (lw_at lw_m5 134 rfl) rfl
theorem q1193 : (Jvm.Cond.code ({ cls := "OpenGates", name := "near", desc := "(JII)I" } : Jvm.MethodName) prog_1_method_6_code (4 : Nat) (Option.some Jvm.ClassFile.FieldType.int)) ∈ lw_all := lw_g (lw_at lw_m5 135 rfl) rfl
theorem q1194 : (Jvm.Cond.methodLink "OpenGates" (17 : Nat) ({ cls := "java/lang/Math", name := "min", desc := "(JJ)J" } : Jvm.MethodName)) ∈ lw_all := lw_g (lw_at lw_m5 136 rfl) rfl
theorem q1197 : (Jvm.Cond.methodLink "OpenGates" (23 : Nat) ({ cls := "java/lang/Math", name := "max", desc := "(JJ)J" } : Jvm.MethodName)) ∈ lw_all := lw_g (lw_at lw_m5 139 rfl) rfl
theorem q1200 : (Jvm.Cond.methodLink "OpenGates" (288 : Nat) ({ cls := "OpenGates", name := "isBarred", desc := "(LOpenGates$Table;II)Z" } : Jvm.MethodName)) ∈ lw_all := lw_g (lw_at lw_m5 142 rfl) rfl
theorem q1201 : (Jvm.Cond.privateMethod ({ cls := "OpenGates", name := "isBarred", desc := "(LOpenGates$Table;II)Z" } : Jvm.MethodName)) ∈ lw_tbl := lw_at lw_m5 143 rfl
theorem q1202 : (Jvm.Cond.instanceMethod ({ cls := "OpenGates", name := "isBarred", desc := "(LOpenGates$Table;II)Z" } : Jvm.MethodName)) ∈ lw_all := lw_g (lw_at lw_m5 144 rfl) rfl
theorem q1203 : (Jvm.Cond.code ({ cls := "OpenGates", name := "isBarred", desc := "(LOpenGates$Table;II)Z" } : Jvm.MethodName) prog_1_method_40_code (4 : Nat) (Option.some Jvm.ClassFile.FieldType.boolean)) ∈ lw_all := lw_g (lw_at lw_m5 145 rfl) rfl
theorem q1204 : (Jvm.Cond.methodLink "OpenGates" (278 : Nat) ({ cls := "OpenGates", name := "needed", desc := "(LOpenGates$Table;III)I" } : Jvm.MethodName)) ∈ lw_all := lw_g (lw_at lw_m5 146 rfl) rfl
theorem q1205 : (Jvm.Cond.privateMethod ({ cls := "OpenGates", name := "needed", desc := "(LOpenGates$Table;III)I" } : Jvm.MethodName)) ∈ lw_tbl := lw_at lw_m5 147 rfl
theorem q1206 : (Jvm.Cond.instanceMethod ({ cls := "OpenGates", name := "needed", desc := "(LOpenGates$Table;III)I" } : Jvm.MethodName)) ∈ lw_all := lw_g (lw_at lw_m5 148 rfl) rfl
theorem q1207 : (Jvm.Cond.code ({ cls := "OpenGates", name := "needed", desc := "(LOpenGates$Table;III)I" } : Jvm.MethodName) prog_1_method_41_code (5 : Nat) (Option.some Jvm.ClassFile.FieldType.int)) ∈ lw_all := lw_g (lw_at lw_m5 149 rfl) rfl
theorem q1208 : (Jvm.Cond.methodLink "OpenGates" (292 : Nat) ({ cls := "OpenGates", name := "turns", desc := "(LOpenGates$Table;III)Z" } : Jvm.MethodName)) ∈ lw_all := lw_g (lw_at lw_m5 150 rfl) rfl
theorem q1209 : (Jvm.Cond.privateMethod ({ cls := "OpenGates", name := "turns", desc := "(LOpenGates$Table;III)Z" } : Jvm.MethodName)) ∈ lw_tbl := lw_at lw_m5 151 rfl
theorem q1210 : (Jvm.Cond.instanceMethod ({ cls := "OpenGates", name := "turns", desc := "(LOpenGates$Table;III)Z" } : Jvm.MethodName)) ∈ lw_all := lw_g (lw_at lw_m5 152 rfl) rfl
theorem q1211 : (Jvm.Cond.code ({ cls := "OpenGates", name := "turns", desc := "(LOpenGates$Table;III)Z" } : Jvm.MethodName) prog_1_method_42_code (6 : Nat) (Option.some Jvm.ClassFile.FieldType.boolean)) ∈ lw_all := lw_g (lw_at lw_m5 153 rfl) rfl
theorem q1213 : (Jvm.Cond.instanceMethod ({ cls := "OpenGates", name := "show", desc := "(II)I" } : Jvm.MethodName)) ∈ lw_all := lw_g (lw_at lw_m5 155 rfl) rfl
theorem q1214 : (Jvm.Cond.selects "OpenGates" ({ cls := "OpenGates", name := "show", desc := "(II)I" } : Jvm.MethodName) ({ cls := "OpenGates", name := "show", desc := "(II)I" } : Jvm.MethodName)) ∈ lw_all := lw_g (lw_at lw_m5 156 rfl) rfl
theorem q1215 : (Jvm.Cond.code ({ cls := "OpenGates", name := "show", desc := "(II)I" } : Jvm.MethodName) prog_1_method_52_code (3 : Nat) (Option.some Jvm.ClassFile.FieldType.int)) ∈ lw_all := lw_g (lw_at lw_m5 157 rfl) rfl
theorem q1216 : (Jvm.Cond.methodLink "OpenGates" (312 : Nat) ({ cls := "OpenGates", name := "showsKept", desc := "(II)I" } : Jvm.MethodName)) ∈ lw_all := lw_g (lw_at lw_m5 158 rfl) rfl
theorem q1217 : (Jvm.Cond.privateMethod ({ cls := "OpenGates", name := "showsKept", desc := "(II)I" } : Jvm.MethodName)) ∈ lw_tbl := lw_at lw_m5 159 rfl
theorem q1218 : (Jvm.Cond.instanceMethod ({ cls := "OpenGates", name := "showsKept", desc := "(II)I" } : Jvm.MethodName)) ∈ lw_all := lw_g (lw_at lw_m5 160 rfl) rfl
theorem q1219 : (Jvm.Cond.code ({ cls := "OpenGates", name := "showsKept", desc := "(II)I" } : Jvm.MethodName) prog_1_method_47_code (4 : Nat) (Option.some Jvm.ClassFile.FieldType.int)) ∈ lw_all := lw_g (lw_at lw_m5 161 rfl) rfl
theorem q1220 : (Jvm.Cond.methodLink "OpenGates" (301 : Nat) ({ cls := "OpenGates", name := "canShow", desc := "(LOpenGates$Table;II)Z" } : Jvm.MethodName)) ∈ lw_all := lw_g (lw_at lw_m5 162 rfl) rfl
theorem q1221 : (Jvm.Cond.privateMethod ({ cls := "OpenGates", name := "canShow", desc := "(LOpenGates$Table;II)Z" } : Jvm.MethodName)) ∈ lw_tbl := lw_at lw_m5 163 rfl
theorem q1222 : (Jvm.Cond.instanceMethod ({ cls := "OpenGates", name := "canShow", desc := "(LOpenGates$Table;II)Z" } : Jvm.MethodName)) ∈ lw_all := lw_g (lw_at lw_m5 164 rfl) rfl
theorem q1223 : (Jvm.Cond.code ({ cls := "OpenGates", name := "canShow", desc := "(LOpenGates$Table;II)Z" } : Jvm.MethodName) prog_1_method_44_code (4 : Nat) (Option.some Jvm.ClassFile.FieldType.boolean)) ∈ lw_all := lw_g (lw_at lw_m5 165 rfl) rfl
theorem q1224 : (Jvm.Cond.methodLink "OpenGates" (304 : Nat) ({ cls := "OpenGates", name := "keeps", desc := "(I)V" } : Jvm.MethodName)) ∈ lw_all := lw_g (lw_at lw_m5 166 rfl) rfl
theorem q1225 : (Jvm.Cond.privateMethod ({ cls := "OpenGates", name := "keeps", desc := "(I)V" } : Jvm.MethodName)) ∈ lw_tbl := lw_at lw_m5 167 rfl
theorem q1226 : (Jvm.Cond.instanceMethod ({ cls := "OpenGates", name := "keeps", desc := "(I)V" } : Jvm.MethodName)) ∈ lw_all := lw_g (lw_at lw_m5 168 rfl) rfl
theorem q1227 : (Jvm.Cond.code ({ cls := "OpenGates", name := "keeps", desc := "(I)V" } : Jvm.MethodName) prog_1_method_46_code (4 : Nat) (Option.none : Option Jvm.ClassFile.FieldType)) ∈ lw_all := lw_g (lw_at lw_m5 169 rfl) rfl
theorem q1228 : (Jvm.Cond.methodLink "OpenGates" (298 : Nat) ({ cls := "OpenGates$Table", name := "takes", desc := "(LOpenGates$Table;)V" } : Jvm.MethodName)) ∈ lw_all := lw_g (lw_at lw_m5 170 rfl) rfl
theorem q1229 : (Jvm.Cond.methodLink "OpenGates" (307 : Nat) ({ cls := "OpenGates$Table", name := "turns", desc := "(II)V" } : Jvm.MethodName)) ∈ lw_all := lw_g (lw_at lw_m5 171 rfl) rfl
theorem q1233 : (Jvm.Cond.methodLink "OpenGates" (315 : Nat) ({ cls := "OpenGates", name := "doneOr", desc := "(I)I" } : Jvm.MethodName)) ∈ lw_all := lw_g (lw_at lw_m5 175 rfl) rfl
theorem q1234 : (Jvm.Cond.privateMethod ({ cls := "OpenGates", name := "doneOr", desc := "(I)I" } : Jvm.MethodName)) ∈ lw_tbl := lw_at lw_m5 176 rfl
theorem q1235 : (Jvm.Cond.instanceMethod ({ cls := "OpenGates", name := "doneOr", desc := "(I)I" } : Jvm.MethodName)) ∈ lw_all := lw_g (lw_at lw_m5 177 rfl) rfl
theorem q1236 : (Jvm.Cond.code ({ cls := "OpenGates", name := "doneOr", desc := "(I)I" } : Jvm.MethodName) prog_1_method_51_code (2 : Nat) (Option.some Jvm.ClassFile.FieldType.int)) ∈ lw_all := lw_g (lw_at lw_m5 178 rfl) rfl
theorem q1238 : (Jvm.Cond.instanceMethod ({ cls := "OpenGates", name := "hide", desc := "(II)I" } : Jvm.MethodName)) ∈ lw_all := lw_g (lw_at lw_m5 180 rfl) rfl
theorem q1239 : (Jvm.Cond.selects "OpenGates" ({ cls := "OpenGates", name := "hide", desc := "(II)I" } : Jvm.MethodName) ({ cls := "OpenGates", name := "hide", desc := "(II)I" } : Jvm.MethodName)) ∈ lw_all := lw_g (lw_at lw_m5 181 rfl) rfl
theorem q1240 : (Jvm.Cond.code ({ cls := "OpenGates", name := "hide", desc := "(II)I" } : Jvm.MethodName) prog_1_method_53_code (3 : Nat) (Option.some Jvm.ClassFile.FieldType.int)) ∈ lw_all := lw_g (lw_at lw_m5 182 rfl) rfl
theorem q1241 : (Jvm.Cond.methodLink "OpenGates" (318 : Nat) ({ cls := "OpenGates", name := "hidesKept", desc := "(II)I" } : Jvm.MethodName)) ∈ lw_all := lw_g (lw_at lw_m5 183 rfl) rfl
theorem q1242 : (Jvm.Cond.privateMethod ({ cls := "OpenGates", name := "hidesKept", desc := "(II)I" } : Jvm.MethodName)) ∈ lw_tbl := lw_at lw_m5 184 rfl
theorem q1243 : (Jvm.Cond.instanceMethod ({ cls := "OpenGates", name := "hidesKept", desc := "(II)I" } : Jvm.MethodName)) ∈ lw_all := lw_g (lw_at lw_m5 185 rfl) rfl
theorem q1244 : (Jvm.Cond.code ({ cls := "OpenGates", name := "hidesKept", desc := "(II)I" } : Jvm.MethodName) prog_1_method_48_code (3 : Nat) (Option.some Jvm.ClassFile.FieldType.int)) ∈ lw_all := lw_g (lw_at lw_m5 186 rfl) rfl
theorem q1246 : (Jvm.Cond.instanceMethod ({ cls := "OpenGates", name := "man", desc := "(II)I" } : Jvm.MethodName)) ∈ lw_all := lw_g (lw_at lw_m5 188 rfl) rfl
theorem q1247 : (Jvm.Cond.selects "OpenGates" ({ cls := "OpenGates", name := "man", desc := "(II)I" } : Jvm.MethodName) ({ cls := "OpenGates", name := "man", desc := "(II)I" } : Jvm.MethodName)) ∈ lw_all := lw_g (lw_at lw_m5 189 rfl) rfl
theorem q1248 : (Jvm.Cond.code ({ cls := "OpenGates", name := "man", desc := "(II)I" } : Jvm.MethodName) prog_1_method_54_code (3 : Nat) (Option.some Jvm.ClassFile.FieldType.int)) ∈ lw_all := lw_g (lw_at lw_m5 190 rfl) rfl
theorem q1249 : (Jvm.Cond.methodLink "OpenGates" (321 : Nat) ({ cls := "OpenGates", name := "mansKept", desc := "(II)I" } : Jvm.MethodName)) ∈ lw_all := lw_g (lw_at lw_m5 191 rfl) rfl
theorem q1250 : (Jvm.Cond.privateMethod ({ cls := "OpenGates", name := "mansKept", desc := "(II)I" } : Jvm.MethodName)) ∈ lw_tbl := lw_at lw_m5 192 rfl
theorem q1251 : (Jvm.Cond.instanceMethod ({ cls := "OpenGates", name := "mansKept", desc := "(II)I" } : Jvm.MethodName)) ∈ lw_all := lw_g (lw_at lw_m5 193 rfl) rfl
theorem q1252 : (Jvm.Cond.code ({ cls := "OpenGates", name := "mansKept", desc := "(II)I" } : Jvm.MethodName) prog_1_method_49_code (3 : Nat) (Option.some Jvm.ClassFile.FieldType.int)) ∈ lw_all := lw_g (lw_at lw_m5 194 rfl) rfl
theorem q1254 : (Jvm.Cond.instanceMethod ({ cls := "OpenGates", name := "march", desc := "(II)I" } : Jvm.MethodName)) ∈ lw_all := lw_g (lw_at lw_m5 196 rfl) rfl
theorem q1255 : (Jvm.Cond.selects "OpenGates" ({ cls := "OpenGates", name := "march", desc := "(II)I" } : Jvm.MethodName) ({ cls := "OpenGates", name := "march", desc := "(II)I" } : Jvm.MethodName)) ∈ lw_all := lw_g (lw_at lw_m5 197 rfl) rfl
theorem q1256 : (Jvm.Cond.code ({ cls := "OpenGates", name := "march", desc := "(II)I" } : Jvm.MethodName) prog_1_method_55_code (3 : Nat) (Option.some Jvm.ClassFile.FieldType.int)) ∈ lw_all := lw_g (lw_at lw_m5 198 rfl) rfl
theorem q1257 : (Jvm.Cond.methodLink "OpenGates" (324 : Nat) ({ cls := "OpenGates", name := "marchesKept", desc := "(II)I" } : Jvm.MethodName)) ∈ lw_all := lw_g (lw_at lw_m5 199 rfl) rfl
theorem q1258 : (Jvm.Cond.privateMethod ({ cls := "OpenGates", name := "marchesKept", desc := "(II)I" } : Jvm.MethodName)) ∈ lw_tbl := lw_at lw_m5 200 rfl
theorem q1259 : (Jvm.Cond.instanceMethod ({ cls := "OpenGates", name := "marchesKept", desc := "(II)I" } : Jvm.MethodName)) ∈ lw_all := lw_g (lw_at lw_m5 201 rfl) rfl
theorem q1260 : (Jvm.Cond.code ({ cls := "OpenGates", name := "marchesKept", desc := "(II)I" } : Jvm.MethodName) prog_1_method_50_code (3 : Nat) (Option.some Jvm.ClassFile.FieldType.int)) ∈ lw_all := lw_g (lw_at lw_m5 202 rfl) rfl
theorem q1261 : (Jvm.Cond.methodLink "OpenGates" (309 : Nat) ({ cls := "OpenGates", name := "marches", desc := "(LOpenGates$Table;II)I" } : Jvm.MethodName)) ∈ lw_all := lw_g (lw_at lw_m5 203 rfl) rfl
theorem q1262 : (Jvm.Cond.privateMethod ({ cls := "OpenGates", name := "marches", desc := "(LOpenGates$Table;II)I" } : Jvm.MethodName)) ∈ lw_tbl := lw_at lw_m5 204 rfl
theorem q1263 : (Jvm.Cond.instanceMethod ({ cls := "OpenGates", name := "marches", desc := "(LOpenGates$Table;II)I" } : Jvm.MethodName)) ∈ lw_all := lw_g (lw_at lw_m5 205 rfl) rfl
theorem q1264 : (Jvm.Cond.code ({ cls := "OpenGates", name := "marches", desc := "(LOpenGates$Table;II)I" } : Jvm.MethodName) prog_1_method_45_code (6 : Nat) (Option.some Jvm.ClassFile.FieldType.int)) ∈ lw_all := lw_g (lw_at lw_m5 206 rfl) rfl
theorem q1265 : (Jvm.Cond.methodLink "OpenGates" (296 : Nat) ({ cls := "java/lang/Math", name := "max", desc := "(II)I" } : Jvm.MethodName)) ∈ lw_all := lw_g (lw_at lw_m5 207 rfl) rfl
theorem q1267 : (Jvm.Cond.instanceMethod ({ cls := "OpenGates", name := "undo", desc := "()I" } : Jvm.MethodName)) ∈ lw_all := lw_g (lw_at lw_m5 209 rfl) rfl
theorem q1268 : (Jvm.Cond.selects "OpenGates" ({ cls := "OpenGates", name := "undo", desc := "()I" } : Jvm.MethodName) ({ cls := "OpenGates", name := "undo", desc := "()I" } : Jvm.MethodName)) ∈ lw_all := lw_g (lw_at lw_m5 210 rfl) rfl
theorem q1269 : (Jvm.Cond.code ({ cls := "OpenGates", name := "undo", desc := "()I" } : Jvm.MethodName) prog_1_method_56_code (1 : Nat) (Option.some Jvm.ClassFile.FieldType.int)) ∈ lw_all := lw_g (lw_at lw_m5 211 rfl) rfl
theorem q1271 : (Jvm.Cond.instanceMethod ({ cls := "OpenGates", name := "bluff", desc := "(III)I" } : Jvm.MethodName)) ∈ lw_all := lw_g (lw_at lw_m5 213 rfl) rfl
theorem q1272 : (Jvm.Cond.selects "OpenGates" ({ cls := "OpenGates", name := "bluff", desc := "(III)I" } : Jvm.MethodName) ({ cls := "OpenGates", name := "bluff", desc := "(III)I" } : Jvm.MethodName)) ∈ lw_all := lw_g (lw_at lw_m5 214 rfl) rfl
theorem q1273 : (Jvm.Cond.code ({ cls := "OpenGates", name := "bluff", desc := "(III)I" } : Jvm.MethodName) prog_1_method_57_code (10 : Nat) (Option.some Jvm.ClassFile.FieldType.int)) ∈ lw_all := lw_g (lw_at lw_m5 215 rfl) rfl
theorem q1274 : (Jvm.Cond.constant "OpenGates" (327 : Nat) (1000000 : Int32)) ∈ lw_all := lw_g (lw_at lw_m5 216 rfl) rfl
theorem q1276 : (Jvm.Cond.instanceMethod ({ cls := "OpenGates", name := "scout", desc := "(II)I" } : Jvm.MethodName)) ∈ lw_all := lw_g (lw_at lw_m5 218 rfl) rfl
theorem q1277 : (Jvm.Cond.selects "OpenGates" ({ cls := "OpenGates", name := "scout", desc := "(II)I" } : Jvm.MethodName) ({ cls := "OpenGates", name := "scout", desc := "(II)I" } : Jvm.MethodName)) ∈ lw_all := lw_g (lw_at lw_m5 219 rfl) rfl
theorem q1278 : (Jvm.Cond.code ({ cls := "OpenGates", name := "scout", desc := "(II)I" } : Jvm.MethodName) prog_1_method_58_code (8 : Nat) (Option.some Jvm.ClassFile.FieldType.int)) ∈ lw_all := lw_g (lw_at lw_m5 220 rfl) rfl
theorem q1279 : (Jvm.Cond.methodLink "OpenGates" (328 : Nat) ({ cls := "java/lang/Math", name := "abs", desc := "(I)I" } : Jvm.MethodName)) ∈ lw_all := lw_g (lw_at lw_m5 221 rfl) rfl
theorem q1283 : (Jvm.Cond.instanceMethod ({ cls := "OpenGates", name := "holds", desc := "(II)J" } : Jvm.MethodName)) ∈ lw_all := lw_g (lw_at lw_m5 225 rfl) rfl
theorem q1284 : (Jvm.Cond.selects "OpenGates" ({ cls := "OpenGates", name := "holds", desc := "(II)J" } : Jvm.MethodName) ({ cls := "OpenGates", name := "holds", desc := "(II)J" } : Jvm.MethodName)) ∈ lw_all := lw_g (lw_at lw_m5 226 rfl) rfl
theorem q1285 : (Jvm.Cond.code ({ cls := "OpenGates", name := "holds", desc := "(II)J" } : Jvm.MethodName) prog_1_method_59_code (7 : Nat) (Option.some Jvm.ClassFile.FieldType.long)) ∈ lw_all := lw_g (lw_at lw_m5 227 rfl) rfl
theorem q1286 : (Jvm.Cond.constantLong "OpenGates" (331 : Nat) (-1 : Int64)) ∈ lw_all := lw_g (lw_at lw_m5 228 rfl) rfl
theorem q1287 : (Jvm.Cond.constantLong "OpenGates" (333 : Nat) (1000000000000 : Int64)) ∈ lw_all := lw_g (lw_at lw_m5 229 rfl) rfl
theorem q1288 : (Jvm.Cond.constantLong "OpenGates" (335 : Nat) (10 : Int64)) ∈ lw_all := lw_g (lw_at lw_m5 230 rfl) rfl
theorem q1290 : (Jvm.Cond.instanceMethod ({ cls := "OpenGates", name := "retreat", desc := "(III)I" } : Jvm.MethodName)) ∈ lw_all := lw_g (lw_at lw_m5 232 rfl) rfl
theorem q1291 : (Jvm.Cond.selects "OpenGates" ({ cls := "OpenGates", name := "retreat", desc := "(III)I" } : Jvm.MethodName) ({ cls := "OpenGates", name := "retreat", desc := "(III)I" } : Jvm.MethodName)) ∈ lw_all := lw_g (lw_at lw_m5 233 rfl) rfl
theorem q1292 : (Jvm.Cond.code ({ cls := "OpenGates", name := "retreat", desc := "(III)I" } : Jvm.MethodName) prog_1_method_61_code (7 : Nat) (Option.some Jvm.ClassFile.FieldType.int)) ∈ lw_all := lw_g (lw_at lw_m5 234 rfl) rfl
theorem q1293 : (Jvm.Cond.methodLink "OpenGates" (337 : Nat) ({ cls := "OpenGates", name := "goesOn", desc := "(II)I" } : Jvm.MethodName)) ∈ lw_all := lw_g (lw_at lw_m5 235 rfl) rfl
theorem q1294 : (Jvm.Cond.privateMethod ({ cls := "OpenGates", name := "goesOn", desc := "(II)I" } : Jvm.MethodName)) ∈ lw_tbl := lw_at lw_m5 236 rfl
theorem q1295 : (Jvm.Cond.instanceMethod ({ cls := "OpenGates", name := "goesOn", desc := "(II)I" } : Jvm.MethodName)) ∈ lw_all := lw_g (lw_at lw_m5 237 rfl) rfl
theorem q1296 : (Jvm.Cond.code ({ cls := "OpenGates", name := "goesOn", desc := "(II)I" } : Jvm.MethodName) prog_1_method_60_code (6 : Nat) (Option.some Jvm.ClassFile.FieldType.int)) ∈ lw_all := lw_g (lw_at lw_m5 238 rfl) rfl
theorem q1298 : (Jvm.Cond.instanceMethod ({ cls := "OpenGates", name := "game", desc := "(IIIII)I" } : Jvm.MethodName)) ∈ lw_all := lw_g (lw_at lw_m6 0 rfl) rfl
theorem q1299 : (Jvm.Cond.selects "OpenGates" ({ cls := "OpenGates", name := "game", desc := "(IIIII)I" } : Jvm.MethodName) ({ cls := "OpenGates", name := "game", desc := "(IIIII)I" } : Jvm.MethodName)) ∈ lw_all := lw_g (lw_at lw_m6 1 rfl) rfl
theorem q1300 : (Jvm.Cond.code ({ cls := "OpenGates", name := "game", desc := "(IIIII)I" } : Jvm.MethodName) prog_1_method_64_code (8 : Nat) (Option.some Jvm.ClassFile.FieldType.int)) ∈ lw_all := lw_g (lw_at lw_m6 2 rfl) rfl
theorem q1301 : (Jvm.Cond.methodLink "OpenGates" (340 : Nat) ({ cls := "OpenGates", name := "isEntry", desc := "(I)Z" } : Jvm.MethodName)) ∈ lw_all := lw_g (lw_at lw_m6 3 rfl) rfl
theorem q1302 : (Jvm.Cond.static ({ cls := "OpenGates", name := "isEntry", desc := "(I)Z" } : Jvm.MethodName)) ∈ lw_all := lw_g (lw_at lw_m6 4 rfl) rfl
theorem q1303 : (Jvm.Cond.code ({ cls := "OpenGates", name := "isEntry", desc := "(I)Z" } : Jvm.MethodName) prog_1_method_62_code (1 : Nat) (Option.some Jvm.ClassFile.FieldType.boolean)) ∈ lw_all := lw_g (lw_at lw_m6 5 rfl) rfl
theorem q1304 : (Jvm.Cond.constant "OpenGates" (343 : Nat) (-100000 : Int32)) ∈ lw_all := lw_g (lw_at lw_m6 6 rfl) rfl
theorem q1305 : (Jvm.Cond.methodLink "OpenGates" (344 : Nat) ({ cls := "OpenGates", name := "ofFraction", desc := "(IIZ)I" } : Jvm.MethodName)) ∈ lw_all := lw_g (lw_at lw_m6 7 rfl) rfl
theorem q1306 : (Jvm.Cond.static ({ cls := "OpenGates", name := "ofFraction", desc := "(IIZ)I" } : Jvm.MethodName)) ∈ lw_all := lw_g (lw_at lw_m6 8 rfl) rfl
theorem q1307 : (Jvm.Cond.code ({ cls := "OpenGates", name := "ofFraction", desc := "(IIZ)I" } : Jvm.MethodName) prog_1_method_63_code (5 : Nat) (Option.some Jvm.ClassFile.FieldType.int)) ∈ lw_all := lw_g (lw_at lw_m6 9 rfl) rfl
theorem q1308 : (Jvm.Cond.methodLink "OpenGates" (30 : Nat) ({ cls := "OpenGates", name := "common", desc := "(II)I" } : Jvm.MethodName)) ∈ lw_all := lw_g (lw_at lw_m6 10 rfl) rfl
theorem q1309 : (Jvm.Cond.static ({ cls := "OpenGates", name := "common", desc := "(II)I" } : Jvm.MethodName)) ∈ lw_all := lw_g (lw_at lw_m6 11 rfl) rfl
theorem q1310 : (Jvm.Cond.code ({ cls := "OpenGates", name := "common", desc := "(II)I" } : Jvm.MethodName) prog_1_method_10_code (2 : Nat) (Option.some Jvm.ClassFile.FieldType.int)) ∈ lw_all := lw_g (lw_at lw_m6 12 rfl) rfl
theorem q1312 : (Jvm.Cond.instanceMethod ({ cls := "OpenGates", name := "siege", desc := "(III)I" } : Jvm.MethodName)) ∈ lw_all := lw_g (lw_at lw_m6 14 rfl) rfl
theorem q1313 : (Jvm.Cond.selects "OpenGates" ({ cls := "OpenGates", name := "siege", desc := "(III)I" } : Jvm.MethodName) ({ cls := "OpenGates", name := "siege", desc := "(III)I" } : Jvm.MethodName)) ∈ lw_all := lw_g (lw_at lw_m6 15 rfl) rfl
theorem q1314 : (Jvm.Cond.code ({ cls := "OpenGates", name := "siege", desc := "(III)I" } : Jvm.MethodName) prog_1_method_65_code (5 : Nat) (Option.some Jvm.ClassFile.FieldType.int)) ∈ lw_all := lw_g (lw_at lw_m6 16 rfl) rfl
theorem q1316 : (Jvm.Cond.instanceMethod ({ cls := "OpenGates", name := "career", desc := "(II)I" } : Jvm.MethodName)) ∈ lw_all := lw_g (lw_at lw_m6 18 rfl) rfl
theorem q1317 : (Jvm.Cond.selects "OpenGates" ({ cls := "OpenGates", name := "career", desc := "(II)I" } : Jvm.MethodName) ({ cls := "OpenGates", name := "career", desc := "(II)I" } : Jvm.MethodName)) ∈ lw_all := lw_g (lw_at lw_m6 19 rfl) rfl
theorem q1318 : (Jvm.Cond.code ({ cls := "OpenGates", name := "career", desc := "(II)I" } : Jvm.MethodName) prog_1_method_68_code (6 : Nat) (Option.some Jvm.ClassFile.FieldType.int)) ∈ lw_all := lw_g (lw_at lw_m6 20 rfl) rfl
theorem q1319 : (Jvm.Cond.methodLink "OpenGates" (356 : Nat) ({ cls := "OpenGates", name := "careful", desc := "(II)I" } : Jvm.MethodName)) ∈ lw_all := lw_g (lw_at lw_m6 21 rfl) rfl
theorem q1320 : (Jvm.Cond.privateMethod ({ cls := "OpenGates", name := "careful", desc := "(II)I" } : Jvm.MethodName)) ∈ lw_tbl := lw_at lw_m6 22 rfl
theorem q1321 : (Jvm.Cond.instanceMethod ({ cls := "OpenGates", name := "careful", desc := "(II)I" } : Jvm.MethodName)) ∈ lw_all := lw_g (lw_at lw_m6 23 rfl) rfl
theorem q1322 : (Jvm.Cond.code ({ cls := "OpenGates", name := "careful", desc := "(II)I" } : Jvm.MethodName) prog_1_method_66_code (3 : Nat) (Option.some Jvm.ClassFile.FieldType.int)) ∈ lw_all := lw_g (lw_at lw_m6 24 rfl) rfl
theorem q1323 : (Jvm.Cond.methodLink "OpenGates" (354 : Nat) ({ cls := "java/lang/Math", name := "min", desc := "(II)I" } : Jvm.MethodName)) ∈ lw_all := lw_g (lw_at lw_m6 25 rfl) rfl
theorem q1324 : (Jvm.Cond.methodLink "OpenGates" (359 : Nat) ({ cls := "OpenGates", name := "bold", desc := "(II)I" } : Jvm.MethodName)) ∈ lw_all := lw_g (lw_at lw_m6 26 rfl) rfl
theorem q1325 : (Jvm.Cond.privateMethod ({ cls := "OpenGates", name := "bold", desc := "(II)I" } : Jvm.MethodName)) ∈ lw_tbl := lw_at lw_m6 27 rfl
theorem q1326 : (Jvm.Cond.instanceMethod ({ cls := "OpenGates", name := "bold", desc := "(II)I" } : Jvm.MethodName)) ∈ lw_all := lw_g (lw_at lw_m6 28 rfl) rfl
theorem q1327 : (Jvm.Cond.code ({ cls := "OpenGates", name := "bold", desc := "(II)I" } : Jvm.MethodName) prog_1_method_67_code (3 : Nat) (Option.some Jvm.ClassFile.FieldType.int)) ∈ lw_all := lw_g (lw_at lw_m6 29 rfl) rfl
theorem q1329 : (Jvm.Cond.instanceMethod ({ cls := "OpenGates", name := "fire", desc := "(I)I" } : Jvm.MethodName)) ∈ lw_all := lw_g (lw_at lw_m6 31 rfl) rfl
theorem q1330 : (Jvm.Cond.selects "OpenGates" ({ cls := "OpenGates", name := "fire", desc := "(I)I" } : Jvm.MethodName) ({ cls := "OpenGates", name := "fire", desc := "(I)I" } : Jvm.MethodName)) ∈ lw_all := lw_g (lw_at lw_m6 32 rfl) rfl
theorem q1331 : (Jvm.Cond.code ({ cls := "OpenGates", name := "fire", desc := "(I)I" } : Jvm.MethodName) prog_1_method_69_code (2 : Nat) (Option.some Jvm.ClassFile.FieldType.int)) ∈ lw_all := lw_g (lw_at lw_m6 33 rfl) rfl
theorem q1333 : (Jvm.Cond.instanceMethod ({ cls := "OpenGates", name := "needs", desc := "(II)I" } : Jvm.MethodName)) ∈ lw_all := lw_g (lw_at lw_m6 35 rfl) rfl
theorem q1334 : (Jvm.Cond.selects "OpenGates" ({ cls := "OpenGates", name := "needs", desc := "(II)I" } : Jvm.MethodName) ({ cls := "OpenGates", name := "needs", desc := "(II)I" } : Jvm.MethodName)) ∈ lw_all := lw_g (lw_at lw_m6 36 rfl) rfl
theorem q1335 : (Jvm.Cond.code ({ cls := "OpenGates", name := "needs", desc := "(II)I" } : Jvm.MethodName) prog_1_method_70_code (4 : Nat) (Option.some Jvm.ClassFile.FieldType.int)) ∈ lw_all := lw_g (lw_at lw_m6 37 rfl) rfl
theorem q1336 : (Jvm.Cond.methodLink "OpenGates" (368 : Nat) ({ cls := "OpenGates", name := "isHill", desc := "(I)Z" } : Jvm.MethodName)) ∈ lw_all := lw_g (lw_at lw_m6 38 rfl) rfl
theorem q1337 : (Jvm.Cond.static ({ cls := "OpenGates", name := "isHill", desc := "(I)Z" } : Jvm.MethodName)) ∈ lw_all := lw_g (lw_at lw_m6 39 rfl) rfl
theorem q1338 : (Jvm.Cond.code ({ cls := "OpenGates", name := "isHill", desc := "(I)Z" } : Jvm.MethodName) prog_1_method_8_code (1 : Nat) (Option.some Jvm.ClassFile.FieldType.boolean)) ∈ lw_all := lw_g (lw_at lw_m6 40 rfl) rfl
theorem q1340 : (Jvm.Cond.instanceMethod ({ cls := "OpenGates", name := "enough", desc := "(I)I" } : Jvm.MethodName)) ∈ lw_all := lw_g (lw_at lw_m6 42 rfl) rfl
theorem q1341 : (Jvm.Cond.selects "OpenGates" ({ cls := "OpenGates", name := "enough", desc := "(I)I" } : Jvm.MethodName) ({ cls := "OpenGates", name := "enough", desc := "(I)I" } : Jvm.MethodName)) ∈ lw_all := lw_g (lw_at lw_m6 43 rfl) rfl
theorem q1342 : (Jvm.Cond.code ({ cls := "OpenGates", name := "enough", desc := "(I)I" } : Jvm.MethodName) prog_1_method_72_code (6 : Nat) (Option.some Jvm.ClassFile.FieldType.int)) ∈ lw_all := lw_g (lw_at lw_m6 44 rfl) rfl
theorem q1343 : (Jvm.Cond.methodLink "OpenGates" (374 : Nat) ({ cls := "OpenGates", name := "ones", desc := "(I)I" } : Jvm.MethodName)) ∈ lw_all := lw_g (lw_at lw_m6 45 rfl) rfl
theorem q1344 : (Jvm.Cond.static ({ cls := "OpenGates", name := "ones", desc := "(I)I" } : Jvm.MethodName)) ∈ lw_all := lw_g (lw_at lw_m6 46 rfl) rfl
theorem q1345 : (Jvm.Cond.code ({ cls := "OpenGates", name := "ones", desc := "(I)I" } : Jvm.MethodName) prog_1_method_5_code (1 : Nat) (Option.some Jvm.ClassFile.FieldType.int)) ∈ lw_all := lw_g (lw_at lw_m6 47 rfl) rfl
theorem q1346 : (Jvm.Cond.methodLink "OpenGates" (11 : Nat) ({ cls := "java/lang/Integer", name := "bitCount", desc := "(I)I" } : Jvm.MethodName)) ∈ lw_all := lw_g (lw_at lw_m6 48 rfl) rfl
theorem q1352 : (Jvm.Cond.methodLink "OpenGates" (377 : Nat) ({ cls := "OpenGates", name := "seenFrom", desc := "(II)I" } : Jvm.MethodName)) ∈ lw_all := lw_g (lw_at lw_m6 54 rfl) rfl
theorem q1353 : (Jvm.Cond.privateMethod ({ cls := "OpenGates", name := "seenFrom", desc := "(II)I" } : Jvm.MethodName)) ∈ lw_tbl := lw_at lw_m6 55 rfl
theorem q1354 : (Jvm.Cond.instanceMethod ({ cls := "OpenGates", name := "seenFrom", desc := "(II)I" } : Jvm.MethodName)) ∈ lw_all := lw_g (lw_at lw_m6 56 rfl) rfl
theorem q1355 : (Jvm.Cond.code ({ cls := "OpenGates", name := "seenFrom", desc := "(II)I" } : Jvm.MethodName) prog_1_method_71_code (5 : Nat) (Option.some Jvm.ClassFile.FieldType.int)) ∈ lw_all := lw_g (lw_at lw_m6 57 rfl) rfl
theorem q1357 : (Jvm.Cond.instanceMethod ({ cls := "OpenGates", name := "counted", desc := "(II)I" } : Jvm.MethodName)) ∈ lw_all := lw_g (lw_at lw_m6 59 rfl) rfl
theorem q1358 : (Jvm.Cond.selects "OpenGates" ({ cls := "OpenGates", name := "counted", desc := "(II)I" } : Jvm.MethodName) ({ cls := "OpenGates", name := "counted", desc := "(II)I" } : Jvm.MethodName)) ∈ lw_all := lw_g (lw_at lw_m6 60 rfl) rfl
theorem q1359 : (Jvm.Cond.code ({ cls := "OpenGates", name := "counted", desc := "(II)I" } : Jvm.MethodName) prog_1_method_73_code (3 : Nat) (Option.some Jvm.ClassFile.FieldType.int)) ∈ lw_all := lw_g (lw_at lw_m6 61 rfl) rfl
theorem q1361 : (Jvm.Cond.instanceMethod ({ cls := "OpenGates", name := "forget", desc := "()I" } : Jvm.MethodName)) ∈ lw_all := lw_g (lw_at lw_m6 63 rfl) rfl
theorem q1362 : (Jvm.Cond.selects "OpenGates" ({ cls := "OpenGates", name := "forget", desc := "()I" } : Jvm.MethodName) ({ cls := "OpenGates", name := "forget", desc := "()I" } : Jvm.MethodName)) ∈ lw_all := lw_g (lw_at lw_m6 64 rfl) rfl
theorem q1363 : (Jvm.Cond.code ({ cls := "OpenGates", name := "forget", desc := "()I" } : Jvm.MethodName) prog_1_method_74_code (2 : Nat) (Option.some Jvm.ClassFile.FieldType.int)) ∈ lw_all := lw_g (lw_at lw_m6 65 rfl) rfl
theorem q1365 : (Jvm.Cond.instanceMethod ({ cls := "OpenGates", name := "fits", desc := "(I)I" } : Jvm.MethodName)) ∈ lw_all := lw_g (lw_at lw_m6 67 rfl) rfl
theorem q1366 : (Jvm.Cond.selects "OpenGates" ({ cls := "OpenGates", name := "fits", desc := "(I)I" } : Jvm.MethodName) ({ cls := "OpenGates", name := "fits", desc := "(I)I" } : Jvm.MethodName)) ∈ lw_all := lw_g (lw_at lw_m6 68 rfl) rfl
theorem q1367 : (Jvm.Cond.code ({ cls := "OpenGates", name := "fits", desc := "(I)I" } : Jvm.MethodName) prog_1_method_76_code (4 : Nat) (Option.some Jvm.ClassFile.FieldType.int)) ∈ lw_all := lw_g (lw_at lw_m6 69 rfl) rfl
theorem q1368 : (Jvm.Cond.methodLink "OpenGates" (386 : Nat) ({ cls := "OpenGates", name := "isFitting", desc := "(I)Z" } : Jvm.MethodName)) ∈ lw_all := lw_g (lw_at lw_m6 70 rfl) rfl
theorem q1369 : (Jvm.Cond.privateMethod ({ cls := "OpenGates", name := "isFitting", desc := "(I)Z" } : Jvm.MethodName)) ∈ lw_tbl := lw_at lw_m6 71 rfl
theorem q1370 : (Jvm.Cond.instanceMethod ({ cls := "OpenGates", name := "isFitting", desc := "(I)Z" } : Jvm.MethodName)) ∈ lw_all := lw_g (lw_at lw_m6 72 rfl) rfl
theorem q1371 : (Jvm.Cond.code ({ cls := "OpenGates", name := "isFitting", desc := "(I)Z" } : Jvm.MethodName) prog_1_method_75_code (3 : Nat) (Option.some Jvm.ClassFile.FieldType.boolean)) ∈ lw_all := lw_g (lw_at lw_m6 73 rfl) rfl
theorem q1373 : (Jvm.Cond.instanceMethod ({ cls := "OpenGates", name := "next", desc := "(I)I" } : Jvm.MethodName)) ∈ lw_all := lw_g (lw_at lw_m6 75 rfl) rfl
theorem q1374 : (Jvm.Cond.selects "OpenGates" ({ cls := "OpenGates", name := "next", desc := "(I)I" } : Jvm.MethodName) ({ cls := "OpenGates", name := "next", desc := "(I)I" } : Jvm.MethodName)) ∈ lw_all := lw_g (lw_at lw_m6 76 rfl) rfl
theorem q1375 : (Jvm.Cond.code ({ cls := "OpenGates", name := "next", desc := "(I)I" } : Jvm.MethodName) prog_1_method_77_code (8 : Nat) (Option.some Jvm.ClassFile.FieldType.int)) ∈ lw_all := lw_g (lw_at lw_m6 77 rfl) rfl
theorem q1377 : (Jvm.Cond.instanceMethod ({ cls := "OpenGates", name := "orders", desc := "()I" } : Jvm.MethodName)) ∈ lw_all := lw_g (lw_at lw_m6 79 rfl) rfl
theorem q1378 : (Jvm.Cond.selects "OpenGates" ({ cls := "OpenGates", name := "orders", desc := "()I" } : Jvm.MethodName) ({ cls := "OpenGates", name := "orders", desc := "()I" } : Jvm.MethodName)) ∈ lw_all := lw_g (lw_at lw_m6 80 rfl) rfl
theorem q1379 : (Jvm.Cond.code ({ cls := "OpenGates", name := "orders", desc := "()I" } : Jvm.MethodName) prog_1_method_78_code (10 : Nat) (Option.some Jvm.ClassFile.FieldType.int)) ∈ lw_all := lw_g (lw_at lw_m6 81 rfl) rfl
theorem q1380 : (Jvm.Cond.classLink "OpenGates" (389 : Nat) "OpenGates$OrderReader") ∈ lw_all := lw_g (lw_at lw_m6 82 rfl) rfl
theorem q1382 : (Jvm.Cond.methodLink "OpenGates" (391 : Nat) ({ cls := "OpenGates$OrderReader", name := "<init>", desc := "([BI)V" } : Jvm.MethodName)) ∈ lw_all := lw_g (lw_at lw_m6 84 rfl) rfl
theorem q1389 : (Jvm.Cond.fieldLinkNest "OpenGates" (398 : Nat) "OpenGates$OrderReader" "orders" "Ljava/util/ArrayList;" "OpenGates") ∈ lw_tbl := lw_at lw_m6 91 rfl
theorem q1400 : (Jvm.Cond.methodLink "OpenGates" (392 : Nat) ({ cls := "java/lang/System", name := "arraycopy", desc := "(Ljava/lang/Object;ILjava/lang/Object;II)V" } : Jvm.MethodName)) ∈ lw_all := lw_g (lw_at lw_m6 102 rfl) rfl
theorem q1401 : (Jvm.Cond.classLink "OpenGates" (401 : Nat) "OpenGates$Order") ∈ lw_all := lw_g (lw_at lw_m6 103 rfl) rfl
theorem q1402 : (Jvm.Cond.methodLink "OpenGates" (406 : Nat) ({ cls := "OpenGates", name := "tellsOrder", desc := "(II)V" } : Jvm.MethodName)) ∈ lw_all := lw_g (lw_at lw_m6 104 rfl) rfl
theorem q1403 : (Jvm.Cond.privateMethod ({ cls := "OpenGates", name := "tellsOrder", desc := "(II)V" } : Jvm.MethodName)) ∈ lw_tbl := lw_at lw_m6 105 rfl
theorem q1404 : (Jvm.Cond.instanceMethod ({ cls := "OpenGates", name := "tellsOrder", desc := "(II)V" } : Jvm.MethodName)) ∈ lw_all := lw_g (lw_at lw_m6 106 rfl) rfl
theorem q1405 : (Jvm.Cond.code ({ cls := "OpenGates", name := "tellsOrder", desc := "(II)V" } : Jvm.MethodName) prog_1_method_81_code (6 : Nat) (Option.none : Option Jvm.ClassFile.FieldType)) ∈ lw_all := lw_g (lw_at lw_m6 107 rfl) rfl
theorem q1406 : (Jvm.Cond.methodLink "OpenGates" (409 : Nat) ({ cls := "OpenGates$Order", name := "isNow", desc := "(LOpenGates$Setting;)Z" } : Jvm.MethodName)) ∈ lw_all := lw_g (lw_at lw_m6 108 rfl) rfl
theorem q1412 : (Jvm.Cond.methodLink "OpenGates" (413 : Nat) ({ cls := "OpenGates", name := "runs", desc := "(LOpenGates$Order;)I" } : Jvm.MethodName)) ∈ lw_all := lw_g (lw_at lw_m6 114 rfl) rfl
theorem q1413 : (Jvm.Cond.privateMethod ({ cls := "OpenGates", name := "runs", desc := "(LOpenGates$Order;)I" } : Jvm.MethodName)) ∈ lw_tbl := lw_at lw_m6 115 rfl
theorem q1414 : (Jvm.Cond.instanceMethod ({ cls := "OpenGates", name := "runs", desc := "(LOpenGates$Order;)I" } : Jvm.MethodName)) ∈ lw_all := lw_g (lw_at lw_m6 116 rfl) rfl
theorem q1415 : (Jvm.Cond.code ({ cls := "OpenGates", name := "runs", desc := "(LOpenGates$Order;)I" } : Jvm.MethodName) prog_1_method_79_code (4 : Nat) (Option.some Jvm.ClassFile.FieldType.int)) ∈ lw_all := lw_g (lw_at lw_m6 117 rfl) rfl
theorem q1416 : (Jvm.Cond.methodLink "OpenGates" (427 : Nat) ({ cls := "OpenGates$Order", name := "told", desc := "(LOpenGates$Sum;LOpenGates$Setting;)I" } : Jvm.MethodName)) ∈ lw_all := lw_g (lw_at lw_m6 118 rfl) rfl
theorem q1423 : (Jvm.Cond.methodLink "OpenGates" (417 : Nat) ({ cls := "OpenGates", name := "putsBack", desc := "(I)V" } : Jvm.MethodName)) ∈ lw_all := lw_g (lw_at lw_m6 125 rfl) rfl
theorem q1424 : (Jvm.Cond.privateMethod ({ cls := "OpenGates", name := "putsBack", desc := "(I)V" } : Jvm.MethodName)) ∈ lw_tbl := lw_at lw_m6 126 rfl
theorem q1425 : (Jvm.Cond.instanceMethod ({ cls := "OpenGates", name := "putsBack", desc := "(I)V" } : Jvm.MethodName)) ∈ lw_all := lw_g (lw_at lw_m6 127 rfl) rfl
theorem q1426 : (Jvm.Cond.code ({ cls := "OpenGates", name := "putsBack", desc := "(I)V" } : Jvm.MethodName) prog_1_method_80_code (3 : Nat) (Option.none : Option Jvm.ClassFile.FieldType)) ∈ lw_all := lw_g (lw_at lw_m6 128 rfl) rfl
theorem q1428 : (Jvm.Cond.instanceMethod ({ cls := "OpenGates", name := "sieges", desc := "(II)I" } : Jvm.MethodName)) ∈ lw_all := lw_g (lw_at lw_m6 130 rfl) rfl
theorem q1429 : (Jvm.Cond.selects "OpenGates" ({ cls := "OpenGates", name := "sieges", desc := "(II)I" } : Jvm.MethodName) ({ cls := "OpenGates", name := "sieges", desc := "(II)I" } : Jvm.MethodName)) ∈ lw_all := lw_g (lw_at lw_m6 131 rfl) rfl
theorem q1430 : (Jvm.Cond.code ({ cls := "OpenGates", name := "sieges", desc := "(II)I" } : Jvm.MethodName) prog_1_method_83_code (9 : Nat) (Option.some Jvm.ClassFile.FieldType.int)) ∈ lw_all := lw_g (lw_at lw_m6 132 rfl) rfl
theorem q1431 : (Jvm.Cond.methodLink "OpenGates" (442 : Nat) ({ cls := "OpenGates", name := "draw", desc := "(I)I" } : Jvm.MethodName)) ∈ lw_all := lw_g (lw_at lw_m6 133 rfl) rfl
theorem q1432 : (Jvm.Cond.privateMethod ({ cls := "OpenGates", name := "draw", desc := "(I)I" } : Jvm.MethodName)) ∈ lw_tbl := lw_at lw_m6 134 rfl
theorem q1433 : (Jvm.Cond.instanceMethod ({ cls := "OpenGates", name := "draw", desc := "(I)I" } : Jvm.MethodName)) ∈ lw_all := lw_g (lw_at lw_m6 135 rfl) rfl
theorem q1434 : (Jvm.Cond.code ({ cls := "OpenGates", name := "draw", desc := "(I)I" } : Jvm.MethodName) prog_1_method_82_code (2 : Nat) (Option.some Jvm.ClassFile.FieldType.int)) ∈ lw_all := lw_g (lw_at lw_m6 136 rfl) rfl
theorem q1435 : (Jvm.Cond.constantLong "OpenGates" (436 : Nat) (1103 : Int64)) ∈ lw_all := lw_g (lw_at lw_m6 137 rfl) rfl
theorem q1436 : (Jvm.Cond.constantLong "OpenGates" (438 : Nat) (12345 : Int64)) ∈ lw_all := lw_g (lw_at lw_m6 138 rfl) rfl
theorem q1437 : (Jvm.Cond.constantLong "OpenGates" (440 : Nat) (1000003 : Int64)) ∈ lw_all := lw_g (lw_at lw_m6 139 rfl) rfl
theorem q1439 : (Jvm.Cond.instanceMethod ({ cls := "OpenGates", name := "drawn", desc := "(II)I" } : Jvm.MethodName)) ∈ lw_all := lw_g (lw_at lw_m6 141 rfl) rfl
theorem q1440 : (Jvm.Cond.selects "OpenGates" ({ cls := "OpenGates", name := "drawn", desc := "(II)I" } : Jvm.MethodName) ({ cls := "OpenGates", name := "drawn", desc := "(II)I" } : Jvm.MethodName)) ∈ lw_all := lw_g (lw_at lw_m6 142 rfl) rfl
theorem q1441 : (Jvm.Cond.code ({ cls := "OpenGates", name := "drawn", desc := "(II)I" } : Jvm.MethodName) prog_1_method_84_code (3 : Nat) (Option.some Jvm.ClassFile.FieldType.int)) ∈ lw_all := lw_g (lw_at lw_m6 143 rfl) rfl
theorem q1443 : (Jvm.Cond.instanceMethod ({ cls := "OpenGates", name := "count", desc := "(I)I" } : Jvm.MethodName)) ∈ lw_all := lw_g (lw_at lw_m6 145 rfl) rfl
theorem q1444 : (Jvm.Cond.selects "OpenGates" ({ cls := "OpenGates", name := "count", desc := "(I)I" } : Jvm.MethodName) ({ cls := "OpenGates", name := "count", desc := "(I)I" } : Jvm.MethodName)) ∈ lw_all := lw_g (lw_at lw_m6 146 rfl) rfl
theorem q1445 : (Jvm.Cond.code ({ cls := "OpenGates", name := "count", desc := "(I)I" } : Jvm.MethodName) prog_1_method_85_code (2 : Nat) (Option.some Jvm.ClassFile.FieldType.int)) ∈ lw_all := lw_g (lw_at lw_m6 147 rfl) rfl
theorem q1447 : (Jvm.Cond.instanceMethod ({ cls := "OpenGates", name := "status", desc := "()I" } : Jvm.MethodName)) ∈ lw_all := lw_g (lw_at lw_m6 149 rfl) rfl
theorem q1448 : (Jvm.Cond.selects "OpenGates" ({ cls := "OpenGates", name := "status", desc := "()I" } : Jvm.MethodName) ({ cls := "OpenGates", name := "status", desc := "()I" } : Jvm.MethodName)) ∈ lw_all := lw_g (lw_at lw_m6 150 rfl) rfl
theorem q1449 : (Jvm.Cond.code ({ cls := "OpenGates", name := "status", desc := "()I" } : Jvm.MethodName) prog_1_method_86_code (1 : Nat) (Option.some Jvm.ClassFile.FieldType.int)) ∈ lw_all := lw_g (lw_at lw_m6 151 rfl) rfl
theorem q2143 : (Jvm.Cond.castable "OpenGates" "java/lang/Object") ∈ lw_tbl := lw_at lw_m9 125 rfl
theorem in_X0 : ∀ w ∈ wsX00, w ∈ lw_all := lw_in wsX00 [382, 384, 386, 388, 390, 392, 394, 396, 398, 400, 402, 404, 406, 408, 410, 412, 414, 416, 418, 420, 422, 424] (by decide +kernel) (by decide +kernel)
