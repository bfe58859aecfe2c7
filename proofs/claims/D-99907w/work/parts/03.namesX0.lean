/-! LeekReadings -/
set_option maxRecDepth 100000
def RX0 : String := "LeekReadings"
def TX0 : u_T := fun k => match k with
  | 0 => ("LeekReadings", "bed", "LLeekReadings$Bed;", false)
  | 1 => ("LeekReadings", "images", "[LLeekReadings$Bed;", true)
  | 2 => ("LeekReadings", "undos", "LLeekReadings$Steps;", true)
  | 3 => ("LeekReadings", "before", "LLeekReadings$Steps;", true)
  | 4 => ("LeekReadings", "ahead", "LLeekReadings$Books;", true)
  | 5 => ("LeekReadings", "real", "LLeekReadings$Books;", true)
  | 6 => ("LeekReadings", "asked", "LLeekReadings$Asked;", true)
  | 7 => ("LeekReadings", "inOrders", "LLeekReadings$Asked;", true)
  | 8 => ("LeekReadings", "nothingTold", "LLeekReadings$Text;", true)
  | 9 => ("LeekReadings", "refused", "[I", true)
  | 10 => ("LeekReadings", "status", "I", false)
  | 11 => ("LeekReadings", "fault", "I", false)
  | 12 => ("LeekReadings", "slugs", "I", false)
  | 13 => ("LeekReadings", "stopped", "I", false)
  | 14 => ("LeekReadings", "tape", "[B", true)
  | 15 => ("LeekReadings", "taped", "I", false)
  | 16 => ("LeekReadings", "change", "[I", true)
  | 17 => ("LeekReadings", "orders", "[I", true)
  | 18 => ("LeekReadings", "tried", "[I", true)
  | 19 => ("LeekReadings", "best", "[I", true)
  | 20 => ("LeekReadings", "wished", "I", false)
  | 21 => ("LeekReadings", "length", "I", false)
  | 22 => ("LeekReadings", "tallest", "I", false)
  | 23 => ("LeekReadings", "soonest", "I", false)
  | 24 => ("LeekReadings", "goal", "I", false)
  | 25 => ("LeekReadings", "alike", "[I", true)
  | 26 => ("LeekReadings", "done", "I", false)
  | 27 => ("LeekReadings", "latest", "I", false)
  | 28 => ("LeekReadings", "drawn", "LLeekReadings$Books;", true)
  | 29 => ("LeekReadings", "drawnBooks", "I", false)
  | _ => ("LeekReadings", "drawnLeeks", "I", false)
def tyX0 : Nat → FieldType := fun k => match k with
  | 0 => .object "LeekReadings$Bed"
  | 1 => .array (.object "LeekReadings$Bed")
  | 2 => .object "LeekReadings$Steps"
  | 3 => .object "LeekReadings$Steps"
  | 4 => .object "LeekReadings$Books"
  | 5 => .object "LeekReadings$Books"
  | 6 => .object "LeekReadings$Asked"
  | 7 => .object "LeekReadings$Asked"
  | 8 => .object "LeekReadings$Text"
  | 9 => .array .int
  | 10 => .int
  | 11 => .int
  | 12 => .int
  | 13 => .int
  | 14 => .array .byte
  | 15 => .int
  | 16 => .array .int
  | 17 => .array .int
  | 18 => .array .int
  | 19 => .array .int
  | 20 => .int
  | 21 => .int
  | 22 => .int
  | 23 => .int
  | 24 => .int
  | 25 => .array .int
  | 26 => .int
  | 27 => .int
  | 28 => .object "LeekReadings$Books"
  | 29 => .int
  | _ => .int
abbrev wsX00 : List Cond := u_ws RX0 TX0 31
set_option maxRecDepth 100000 in
theorem nmX0 : ∀ a, a < 31 → ∀ b, b < 31 → a ≠ b → (TX0 a).2.1 ≠ (TX0 b).2.1 := by decide +kernel
set_option maxRecDepth 100000 in
theorem tyX0_ok : ∀ k, k < 31 → parseFieldDescriptor (TX0 k).2.2.1 = some (tyX0 k) := by decide +kernel
abbrev cX0_init : ByteArray := prog_1_method_3_code
def yX0_init : MethodName := ⟨RX0, "<init>", "()V"⟩
def dkwX0_init_8 : List UInt8 := [181, 0, 94, 42, 2, 181, 0, 97, 177]
abbrev dktX0_init_8 : List UInt8 := dkwX0_init_8 ++ []
def dkwX0_init_7 : List UInt8 := [181, 0, 85, 42, 16, 100, 188, 10, 181, 0, 88, 42, 187, 0, 30, 89, 183, 0, 32, 181, 0, 91, 42, 2]
abbrev dktX0_init_7 : List UInt8 := dkwX0_init_7 ++ dktX0_init_8
def dkwX0_init_6 : List UInt8 := [42, 17, 1, 0, 188, 10, 181, 0, 79, 42, 16, 8, 188, 10, 181, 0, 82, 42, 16, 8, 188, 10]
abbrev dktX0_init_6 : List UInt8 := dkwX0_init_6 ++ dktX0_init_7
def dkwX0_init_5 : List UInt8 := [181, 0, 65, 42, 2, 181, 0, 69, 42, 17, 1, 144, 188, 8, 181, 0, 72, 42, 7, 188, 10, 181, 0, 76]
abbrev dktX0_init_5 : List UInt8 := dkwX0_init_5 ++ dktX0_init_6
def dkwX0_init_4 : List UInt8 := [187, 0, 50, 89, 3, 189, 0, 52, 183, 0, 54, 181, 0, 57, 42, 16, 7, 188, 10, 181, 0, 61, 42, 2]
abbrev dktX0_init_4 : List UInt8 := dkwX0_init_4 ++ dktX0_init_5
def dkwX0_init_3 : List UInt8 := [187, 0, 40, 89, 183, 0, 42, 181, 0, 43, 42, 187, 0, 40, 89, 183, 0, 42, 181, 0, 47, 42]
abbrev dktX0_init_3 : List UInt8 := dkwX0_init_3 ++ dktX0_init_4
def dkwX0_init_2 : List UInt8 := [187, 0, 30, 89, 183, 0, 32, 181, 0, 33, 42, 187, 0, 30, 89, 183, 0, 32, 181, 0, 37, 42]
abbrev dktX0_init_2 : List UInt8 := dkwX0_init_2 ++ dktX0_init_3
def dkwX0_init_1 : List UInt8 := [187, 0, 20, 89, 183, 0, 22, 181, 0, 23, 42, 187, 0, 20, 89, 183, 0, 22, 181, 0, 27, 42]
abbrev dktX0_init_1 : List UInt8 := dkwX0_init_1 ++ dktX0_init_2
def dkwX0_init_0 : List UInt8 := [42, 183, 0, 1, 42, 187, 0, 7, 89, 183, 0, 9, 181, 0, 10, 42, 5, 189, 0, 7, 181, 0, 16, 42]
abbrev dktX0_init_0 : List UInt8 := dkwX0_init_0 ++ dktX0_init_1
theorem dksX0_init_0 : cX0_init.data.toList.drop 0 = dktX0_init_0 := by decide +kernel
theorem dksX0_init_1 : cX0_init.data.toList.drop 24 = dktX0_init_1 := dk_seg dksX0_init_0 24 rfl rfl
theorem dksX0_init_2 : cX0_init.data.toList.drop 46 = dktX0_init_2 := dk_seg dksX0_init_1 22 rfl rfl
theorem dksX0_init_3 : cX0_init.data.toList.drop 68 = dktX0_init_3 := dk_seg dksX0_init_2 22 rfl rfl
theorem dksX0_init_4 : cX0_init.data.toList.drop 90 = dktX0_init_4 := dk_seg dksX0_init_3 22 rfl rfl
theorem dksX0_init_5 : cX0_init.data.toList.drop 114 = dktX0_init_5 := dk_seg dksX0_init_4 24 rfl rfl
theorem dksX0_init_6 : cX0_init.data.toList.drop 138 = dktX0_init_6 := dk_seg dksX0_init_5 24 rfl rfl
theorem dksX0_init_7 : cX0_init.data.toList.drop 160 = dktX0_init_7 := dk_seg dksX0_init_6 22 rfl rfl
theorem dksX0_init_8 : cX0_init.data.toList.drop 184 = dktX0_init_8 := dk_seg dksX0_init_7 24 rfl rfl
theorem dX0_init_0 : decode cX0_init 0 = .ok (.aload_n 0, 1) := dk_42 (dk_at dksX0_init_0 0 rfl rfl)
theorem dX0_init_1 : decode cX0_init 1 = .ok (.invokespecial 1, 3) := dk_183 0 1 (dk_at dksX0_init_0 1 rfl rfl)
theorem dX0_init_4 : decode cX0_init 4 = .ok (.aload_n 0, 1) := dk_42 (dk_at dksX0_init_0 4 rfl rfl)
theorem dX0_init_5 : decode cX0_init 5 = .ok (.new 7, 3) := dk_187 0 7 (dk_at dksX0_init_0 5 rfl rfl)
theorem dX0_init_8 : decode cX0_init 8 = .ok (.dup, 1) := dk_89 (dk_at dksX0_init_0 8 rfl rfl)
theorem dX0_init_9 : decode cX0_init 9 = .ok (.invokespecial 9, 3) := dk_183 0 9 (dk_at dksX0_init_0 9 rfl rfl)
theorem dX0_init_12 : decode cX0_init 12 = .ok (.putfield 10, 3) := dk_181 0 10 (dk_at dksX0_init_0 12 rfl rfl)
theorem dX0_init_15 : decode cX0_init 15 = .ok (.aload_n 0, 1) := dk_42 (dk_at dksX0_init_0 15 rfl rfl)
theorem dX0_init_16 : decode cX0_init 16 = .ok (.iconst 2, 1) := dk_5 (dk_at dksX0_init_0 16 rfl rfl)
theorem dX0_init_17 : decode cX0_init 17 = .ok (.anewarray 7, 3) := dk_189 0 7 (dk_at dksX0_init_0 17 rfl rfl)
theorem dX0_init_20 : decode cX0_init 20 = .ok (.putfield 16, 3) := dk_181 0 16 (dk_at dksX0_init_0 20 rfl rfl)
theorem dX0_init_23 : decode cX0_init 23 = .ok (.aload_n 0, 1) := dk_42 (dk_at dksX0_init_0 23 rfl rfl)
theorem dX0_init_24 : decode cX0_init 24 = .ok (.new 20, 3) := dk_187 0 20 (dk_at dksX0_init_1 0 rfl rfl)
theorem dX0_init_27 : decode cX0_init 27 = .ok (.dup, 1) := dk_89 (dk_at dksX0_init_1 3 rfl rfl)
theorem dX0_init_28 : decode cX0_init 28 = .ok (.invokespecial 22, 3) := dk_183 0 22 (dk_at dksX0_init_1 4 rfl rfl)
theorem dX0_init_31 : decode cX0_init 31 = .ok (.putfield 23, 3) := dk_181 0 23 (dk_at dksX0_init_1 7 rfl rfl)
theorem dX0_init_34 : decode cX0_init 34 = .ok (.aload_n 0, 1) := dk_42 (dk_at dksX0_init_1 10 rfl rfl)
theorem dX0_init_35 : decode cX0_init 35 = .ok (.new 20, 3) := dk_187 0 20 (dk_at dksX0_init_1 11 rfl rfl)
theorem dX0_init_38 : decode cX0_init 38 = .ok (.dup, 1) := dk_89 (dk_at dksX0_init_1 14 rfl rfl)
theorem dX0_init_39 : decode cX0_init 39 = .ok (.invokespecial 22, 3) := dk_183 0 22 (dk_at dksX0_init_1 15 rfl rfl)
theorem dX0_init_42 : decode cX0_init 42 = .ok (.putfield 27, 3) := dk_181 0 27 (dk_at dksX0_init_1 18 rfl rfl)
theorem dX0_init_45 : decode cX0_init 45 = .ok (.aload_n 0, 1) := dk_42 (dk_at dksX0_init_1 21 rfl rfl)
theorem dX0_init_46 : decode cX0_init 46 = .ok (.new 30, 3) := dk_187 0 30 (dk_at dksX0_init_2 0 rfl rfl)
theorem dX0_init_49 : decode cX0_init 49 = .ok (.dup, 1) := dk_89 (dk_at dksX0_init_2 3 rfl rfl)
theorem dX0_init_50 : decode cX0_init 50 = .ok (.invokespecial 32, 3) := dk_183 0 32 (dk_at dksX0_init_2 4 rfl rfl)
theorem dX0_init_53 : decode cX0_init 53 = .ok (.putfield 33, 3) := dk_181 0 33 (dk_at dksX0_init_2 7 rfl rfl)
theorem dX0_init_56 : decode cX0_init 56 = .ok (.aload_n 0, 1) := dk_42 (dk_at dksX0_init_2 10 rfl rfl)
theorem dX0_init_57 : decode cX0_init 57 = .ok (.new 30, 3) := dk_187 0 30 (dk_at dksX0_init_2 11 rfl rfl)
theorem dX0_init_60 : decode cX0_init 60 = .ok (.dup, 1) := dk_89 (dk_at dksX0_init_2 14 rfl rfl)
theorem dX0_init_61 : decode cX0_init 61 = .ok (.invokespecial 32, 3) := dk_183 0 32 (dk_at dksX0_init_2 15 rfl rfl)
theorem dX0_init_64 : decode cX0_init 64 = .ok (.putfield 37, 3) := dk_181 0 37 (dk_at dksX0_init_2 18 rfl rfl)
theorem dX0_init_67 : decode cX0_init 67 = .ok (.aload_n 0, 1) := dk_42 (dk_at dksX0_init_2 21 rfl rfl)
theorem dX0_init_68 : decode cX0_init 68 = .ok (.new 40, 3) := dk_187 0 40 (dk_at dksX0_init_3 0 rfl rfl)
theorem dX0_init_71 : decode cX0_init 71 = .ok (.dup, 1) := dk_89 (dk_at dksX0_init_3 3 rfl rfl)
theorem dX0_init_72 : decode cX0_init 72 = .ok (.invokespecial 42, 3) := dk_183 0 42 (dk_at dksX0_init_3 4 rfl rfl)
theorem dX0_init_75 : decode cX0_init 75 = .ok (.putfield 43, 3) := dk_181 0 43 (dk_at dksX0_init_3 7 rfl rfl)
theorem dX0_init_78 : decode cX0_init 78 = .ok (.aload_n 0, 1) := dk_42 (dk_at dksX0_init_3 10 rfl rfl)
theorem dX0_init_79 : decode cX0_init 79 = .ok (.new 40, 3) := dk_187 0 40 (dk_at dksX0_init_3 11 rfl rfl)
theorem dX0_init_82 : decode cX0_init 82 = .ok (.dup, 1) := dk_89 (dk_at dksX0_init_3 14 rfl rfl)
theorem dX0_init_83 : decode cX0_init 83 = .ok (.invokespecial 42, 3) := dk_183 0 42 (dk_at dksX0_init_3 15 rfl rfl)
theorem dX0_init_86 : decode cX0_init 86 = .ok (.putfield 47, 3) := dk_181 0 47 (dk_at dksX0_init_3 18 rfl rfl)
theorem dX0_init_89 : decode cX0_init 89 = .ok (.aload_n 0, 1) := dk_42 (dk_at dksX0_init_3 21 rfl rfl)
theorem dX0_init_90 : decode cX0_init 90 = .ok (.new 50, 3) := dk_187 0 50 (dk_at dksX0_init_4 0 rfl rfl)
theorem dX0_init_93 : decode cX0_init 93 = .ok (.dup, 1) := dk_89 (dk_at dksX0_init_4 3 rfl rfl)
theorem dX0_init_94 : decode cX0_init 94 = .ok (.iconst 0, 1) := dk_3 (dk_at dksX0_init_4 4 rfl rfl)
theorem dX0_init_95 : decode cX0_init 95 = .ok (.anewarray 52, 3) := dk_189 0 52 (dk_at dksX0_init_4 5 rfl rfl)
theorem dX0_init_98 : decode cX0_init 98 = .ok (.invokespecial 54, 3) := dk_183 0 54 (dk_at dksX0_init_4 8 rfl rfl)
theorem dX0_init_101 : decode cX0_init 101 = .ok (.putfield 57, 3) := dk_181 0 57 (dk_at dksX0_init_4 11 rfl rfl)
theorem dX0_init_104 : decode cX0_init 104 = .ok (.aload_n 0, 1) := dk_42 (dk_at dksX0_init_4 14 rfl rfl)
theorem dX0_init_105 : decode cX0_init 105 = .ok (.bipush 7, 2) := dk_16 7 (dk_at dksX0_init_4 15 rfl rfl)
theorem dX0_init_107 : decode cX0_init 107 = .ok (.newarray .int, 2) := dk_188_10 (dk_at dksX0_init_4 17 rfl rfl)
theorem dX0_init_109 : decode cX0_init 109 = .ok (.putfield 61, 3) := dk_181 0 61 (dk_at dksX0_init_4 19 rfl rfl)
theorem dX0_init_112 : decode cX0_init 112 = .ok (.aload_n 0, 1) := dk_42 (dk_at dksX0_init_4 22 rfl rfl)
theorem dX0_init_113 : decode cX0_init 113 = .ok (.iconst (-1), 1) := dk_2 (dk_at dksX0_init_4 23 rfl rfl)
theorem dX0_init_114 : decode cX0_init 114 = .ok (.putfield 65, 3) := dk_181 0 65 (dk_at dksX0_init_5 0 rfl rfl)
theorem dX0_init_117 : decode cX0_init 117 = .ok (.aload_n 0, 1) := dk_42 (dk_at dksX0_init_5 3 rfl rfl)
theorem dX0_init_118 : decode cX0_init 118 = .ok (.iconst (-1), 1) := dk_2 (dk_at dksX0_init_5 4 rfl rfl)
theorem dX0_init_119 : decode cX0_init 119 = .ok (.putfield 69, 3) := dk_181 0 69 (dk_at dksX0_init_5 5 rfl rfl)
theorem dX0_init_122 : decode cX0_init 122 = .ok (.aload_n 0, 1) := dk_42 (dk_at dksX0_init_5 8 rfl rfl)
theorem dX0_init_123 : decode cX0_init 123 = .ok (.sipush 400, 3) := dk_17 1 144 (dk_at dksX0_init_5 9 rfl rfl)
theorem dX0_init_126 : decode cX0_init 126 = .ok (.newarray .byte, 2) := dk_188_8 (dk_at dksX0_init_5 12 rfl rfl)
theorem dX0_init_128 : decode cX0_init 128 = .ok (.putfield 72, 3) := dk_181 0 72 (dk_at dksX0_init_5 14 rfl rfl)
theorem dX0_init_131 : decode cX0_init 131 = .ok (.aload_n 0, 1) := dk_42 (dk_at dksX0_init_5 17 rfl rfl)
theorem dX0_init_132 : decode cX0_init 132 = .ok (.iconst 4, 1) := dk_7 (dk_at dksX0_init_5 18 rfl rfl)
theorem dX0_init_133 : decode cX0_init 133 = .ok (.newarray .int, 2) := dk_188_10 (dk_at dksX0_init_5 19 rfl rfl)
theorem dX0_init_135 : decode cX0_init 135 = .ok (.putfield 76, 3) := dk_181 0 76 (dk_at dksX0_init_5 21 rfl rfl)
theorem dX0_init_138 : decode cX0_init 138 = .ok (.aload_n 0, 1) := dk_42 (dk_at dksX0_init_6 0 rfl rfl)
theorem dX0_init_139 : decode cX0_init 139 = .ok (.sipush 256, 3) := dk_17 1 0 (dk_at dksX0_init_6 1 rfl rfl)
theorem dX0_init_142 : decode cX0_init 142 = .ok (.newarray .int, 2) := dk_188_10 (dk_at dksX0_init_6 4 rfl rfl)
theorem dX0_init_144 : decode cX0_init 144 = .ok (.putfield 79, 3) := dk_181 0 79 (dk_at dksX0_init_6 6 rfl rfl)
theorem dX0_init_147 : decode cX0_init 147 = .ok (.aload_n 0, 1) := dk_42 (dk_at dksX0_init_6 9 rfl rfl)
theorem dX0_init_148 : decode cX0_init 148 = .ok (.bipush 8, 2) := dk_16 8 (dk_at dksX0_init_6 10 rfl rfl)
theorem dX0_init_150 : decode cX0_init 150 = .ok (.newarray .int, 2) := dk_188_10 (dk_at dksX0_init_6 12 rfl rfl)
theorem dX0_init_152 : decode cX0_init 152 = .ok (.putfield 82, 3) := dk_181 0 82 (dk_at dksX0_init_6 14 rfl rfl)
theorem dX0_init_155 : decode cX0_init 155 = .ok (.aload_n 0, 1) := dk_42 (dk_at dksX0_init_6 17 rfl rfl)
theorem dX0_init_156 : decode cX0_init 156 = .ok (.bipush 8, 2) := dk_16 8 (dk_at dksX0_init_6 18 rfl rfl)
theorem dX0_init_158 : decode cX0_init 158 = .ok (.newarray .int, 2) := dk_188_10 (dk_at dksX0_init_6 20 rfl rfl)
theorem dX0_init_160 : decode cX0_init 160 = .ok (.putfield 85, 3) := dk_181 0 85 (dk_at dksX0_init_7 0 rfl rfl)
theorem dX0_init_163 : decode cX0_init 163 = .ok (.aload_n 0, 1) := dk_42 (dk_at dksX0_init_7 3 rfl rfl)
theorem dX0_init_164 : decode cX0_init 164 = .ok (.bipush 100, 2) := dk_16 100 (dk_at dksX0_init_7 4 rfl rfl)
theorem dX0_init_166 : decode cX0_init 166 = .ok (.newarray .int, 2) := dk_188_10 (dk_at dksX0_init_7 6 rfl rfl)
theorem dX0_init_168 : decode cX0_init 168 = .ok (.putfield 88, 3) := dk_181 0 88 (dk_at dksX0_init_7 8 rfl rfl)
theorem dX0_init_171 : decode cX0_init 171 = .ok (.aload_n 0, 1) := dk_42 (dk_at dksX0_init_7 11 rfl rfl)
theorem dX0_init_172 : decode cX0_init 172 = .ok (.new 30, 3) := dk_187 0 30 (dk_at dksX0_init_7 12 rfl rfl)
theorem dX0_init_175 : decode cX0_init 175 = .ok (.dup, 1) := dk_89 (dk_at dksX0_init_7 15 rfl rfl)
theorem dX0_init_176 : decode cX0_init 176 = .ok (.invokespecial 32, 3) := dk_183 0 32 (dk_at dksX0_init_7 16 rfl rfl)
theorem dX0_init_179 : decode cX0_init 179 = .ok (.putfield 91, 3) := dk_181 0 91 (dk_at dksX0_init_7 19 rfl rfl)
theorem dX0_init_182 : decode cX0_init 182 = .ok (.aload_n 0, 1) := dk_42 (dk_at dksX0_init_7 22 rfl rfl)
theorem dX0_init_183 : decode cX0_init 183 = .ok (.iconst (-1), 1) := dk_2 (dk_at dksX0_init_7 23 rfl rfl)
theorem dX0_init_184 : decode cX0_init 184 = .ok (.putfield 94, 3) := dk_181 0 94 (dk_at dksX0_init_8 0 rfl rfl)
theorem dX0_init_187 : decode cX0_init 187 = .ok (.aload_n 0, 1) := dk_42 (dk_at dksX0_init_8 3 rfl rfl)
theorem dX0_init_188 : decode cX0_init 188 = .ok (.iconst (-1), 1) := dk_2 (dk_at dksX0_init_8 4 rfl rfl)
theorem dX0_init_189 : decode cX0_init 189 = .ok (.putfield 97, 3) := dk_181 0 97 (dk_at dksX0_init_8 5 rfl rfl)
theorem dX0_init_192 : decode cX0_init 192 = .ok (.return_, 1) := dk_177 (dk_at dksX0_init_8 8 rfl rfl)
abbrev cX0_feed : ByteArray := prog_1_method_15_code
def yX0_feed : MethodName := ⟨RX0, "feed", "(IIIII)I"⟩
def dkwX0_feed_2 : List UInt8 := [172]
abbrev dktX0_feed_2 : List UInt8 := dkwX0_feed_2 ++ []
def dkwX0_feed_1 : List UInt8 := [182, 0, 151, 42, 29, 182, 0, 151, 42, 21, 4, 182, 0, 151, 42, 21, 5, 182, 0, 151, 42, 180, 0, 148]
abbrev dktX0_feed_1 : List UInt8 := dkwX0_feed_1 ++ dktX0_feed_2
def dkwX0_feed_0 : List UInt8 := [42, 180, 0, 148, 16, 20, 96, 17, 1, 144, 164, 0, 5, 2, 172, 42, 27, 182, 0, 151, 42, 28]
abbrev dktX0_feed_0 : List UInt8 := dkwX0_feed_0 ++ dktX0_feed_1
theorem dksX0_feed_0 : cX0_feed.data.toList.drop 0 = dktX0_feed_0 := by decide +kernel
theorem dksX0_feed_1 : cX0_feed.data.toList.drop 22 = dktX0_feed_1 := dk_seg dksX0_feed_0 22 rfl rfl
theorem dksX0_feed_2 : cX0_feed.data.toList.drop 46 = dktX0_feed_2 := dk_seg dksX0_feed_1 24 rfl rfl
theorem dX0_feed_0 : decode cX0_feed 0 = .ok (.aload_n 0, 1) := dk_42 (dk_at dksX0_feed_0 0 rfl rfl)
theorem dX0_feed_1 : decode cX0_feed 1 = .ok (.getfield 148, 3) := dk_180 0 148 (dk_at dksX0_feed_0 1 rfl rfl)
theorem dX0_feed_4 : decode cX0_feed 4 = .ok (.bipush 20, 2) := dk_16 20 (dk_at dksX0_feed_0 4 rfl rfl)
theorem dX0_feed_6 : decode cX0_feed 6 = .ok (.iadd, 1) := dk_96 (dk_at dksX0_feed_0 6 rfl rfl)
theorem dX0_feed_7 : decode cX0_feed 7 = .ok (.sipush 400, 3) := dk_17 1 144 (dk_at dksX0_feed_0 7 rfl rfl)
theorem dX0_feed_10 : decode cX0_feed 10 = .ok (.if_icmp .le 5, 3) := dk_164 0 5 (dk_at dksX0_feed_0 10 rfl rfl)
theorem dX0_feed_13 : decode cX0_feed 13 = .ok (.iconst (-1), 1) := dk_2 (dk_at dksX0_feed_0 13 rfl rfl)
theorem dX0_feed_14 : decode cX0_feed 14 = .ok (.ireturn, 1) := dk_172 (dk_at dksX0_feed_0 14 rfl rfl)
theorem dX0_feed_15 : decode cX0_feed 15 = .ok (.aload_n 0, 1) := dk_42 (dk_at dksX0_feed_0 15 rfl rfl)
theorem dX0_feed_16 : decode cX0_feed 16 = .ok (.iload_n 1, 1) := dk_27 (dk_at dksX0_feed_0 16 rfl rfl)
theorem dX0_feed_17 : decode cX0_feed 17 = .ok (.invokevirtual 151, 3) := dk_182 0 151 (dk_at dksX0_feed_0 17 rfl rfl)
theorem dX0_feed_20 : decode cX0_feed 20 = .ok (.aload_n 0, 1) := dk_42 (dk_at dksX0_feed_0 20 rfl rfl)
theorem dX0_feed_21 : decode cX0_feed 21 = .ok (.iload_n 2, 1) := dk_28 (dk_at dksX0_feed_0 21 rfl rfl)
theorem dX0_feed_22 : decode cX0_feed 22 = .ok (.invokevirtual 151, 3) := dk_182 0 151 (dk_at dksX0_feed_1 0 rfl rfl)
theorem dX0_feed_25 : decode cX0_feed 25 = .ok (.aload_n 0, 1) := dk_42 (dk_at dksX0_feed_1 3 rfl rfl)
theorem dX0_feed_26 : decode cX0_feed 26 = .ok (.iload_n 3, 1) := dk_29 (dk_at dksX0_feed_1 4 rfl rfl)
theorem dX0_feed_27 : decode cX0_feed 27 = .ok (.invokevirtual 151, 3) := dk_182 0 151 (dk_at dksX0_feed_1 5 rfl rfl)
theorem dX0_feed_30 : decode cX0_feed 30 = .ok (.aload_n 0, 1) := dk_42 (dk_at dksX0_feed_1 8 rfl rfl)
theorem dX0_feed_31 : decode cX0_feed 31 = .ok (.iload 4, 2) := dk_21 4 (dk_at dksX0_feed_1 9 rfl rfl)
theorem dX0_feed_33 : decode cX0_feed 33 = .ok (.invokevirtual 151, 3) := dk_182 0 151 (dk_at dksX0_feed_1 11 rfl rfl)
theorem dX0_feed_36 : decode cX0_feed 36 = .ok (.aload_n 0, 1) := dk_42 (dk_at dksX0_feed_1 14 rfl rfl)
theorem dX0_feed_37 : decode cX0_feed 37 = .ok (.iload 5, 2) := dk_21 5 (dk_at dksX0_feed_1 15 rfl rfl)
theorem dX0_feed_39 : decode cX0_feed 39 = .ok (.invokevirtual 151, 3) := dk_182 0 151 (dk_at dksX0_feed_1 17 rfl rfl)
theorem dX0_feed_42 : decode cX0_feed 42 = .ok (.aload_n 0, 1) := dk_42 (dk_at dksX0_feed_1 20 rfl rfl)
theorem dX0_feed_43 : decode cX0_feed 43 = .ok (.getfield 148, 3) := dk_180 0 148 (dk_at dksX0_feed_1 21 rfl rfl)
theorem dX0_feed_46 : decode cX0_feed 46 = .ok (.ireturn, 1) := dk_172 (dk_at dksX0_feed_2 0 rfl rfl)
abbrev cX0_four : ByteArray := prog_1_method_14_code
def yX0_four : MethodName := ⟨RX0, "four", "(I)V"⟩
def dkwX0_four_1 : List UInt8 := [180, 0, 148, 4, 96, 181, 0, 148, 132, 2, 248, 167, 255, 226, 177]
abbrev dktX0_four_1 : List UInt8 := dkwX0_four_1 ++ []
def dkwX0_four_0 : List UInt8 := [16, 24, 61, 28, 155, 0, 32, 42, 180, 0, 72, 42, 180, 0, 148, 27, 28, 122, 145, 84, 42, 89]
abbrev dktX0_four_0 : List UInt8 := dkwX0_four_0 ++ dktX0_four_1
theorem dksX0_four_0 : cX0_four.data.toList.drop 0 = dktX0_four_0 := by decide +kernel
theorem dksX0_four_1 : cX0_four.data.toList.drop 22 = dktX0_four_1 := dk_seg dksX0_four_0 22 rfl rfl
theorem dX0_four_0 : decode cX0_four 0 = .ok (.bipush 24, 2) := dk_16 24 (dk_at dksX0_four_0 0 rfl rfl)
theorem dX0_four_2 : decode cX0_four 2 = .ok (.istore_n 2, 1) := dk_61 (dk_at dksX0_four_0 2 rfl rfl)
theorem dX0_four_3 : decode cX0_four 3 = .ok (.iload_n 2, 1) := dk_28 (dk_at dksX0_four_0 3 rfl rfl)
theorem dX0_four_4 : decode cX0_four 4 = .ok (.ifCond .lt 32, 3) := dk_155 0 32 (dk_at dksX0_four_0 4 rfl rfl)
theorem dX0_four_7 : decode cX0_four 7 = .ok (.aload_n 0, 1) := dk_42 (dk_at dksX0_four_0 7 rfl rfl)
theorem dX0_four_8 : decode cX0_four 8 = .ok (.getfield 72, 3) := dk_180 0 72 (dk_at dksX0_four_0 8 rfl rfl)
theorem dX0_four_11 : decode cX0_four 11 = .ok (.aload_n 0, 1) := dk_42 (dk_at dksX0_four_0 11 rfl rfl)
theorem dX0_four_12 : decode cX0_four 12 = .ok (.getfield 148, 3) := dk_180 0 148 (dk_at dksX0_four_0 12 rfl rfl)
theorem dX0_four_15 : decode cX0_four 15 = .ok (.iload_n 1, 1) := dk_27 (dk_at dksX0_four_0 15 rfl rfl)
theorem dX0_four_16 : decode cX0_four 16 = .ok (.iload_n 2, 1) := dk_28 (dk_at dksX0_four_0 16 rfl rfl)
theorem dX0_four_17 : decode cX0_four 17 = .ok (.ishr, 1) := dk_122 (dk_at dksX0_four_0 17 rfl rfl)
theorem dX0_four_18 : decode cX0_four 18 = .ok (.i2b, 1) := dk_145 (dk_at dksX0_four_0 18 rfl rfl)
theorem dX0_four_19 : decode cX0_four 19 = .ok (.bastore, 1) := dk_84 (dk_at dksX0_four_0 19 rfl rfl)
theorem dX0_four_20 : decode cX0_four 20 = .ok (.aload_n 0, 1) := dk_42 (dk_at dksX0_four_0 20 rfl rfl)
theorem dX0_four_21 : decode cX0_four 21 = .ok (.dup, 1) := dk_89 (dk_at dksX0_four_0 21 rfl rfl)
theorem dX0_four_22 : decode cX0_four 22 = .ok (.getfield 148, 3) := dk_180 0 148 (dk_at dksX0_four_1 0 rfl rfl)
theorem dX0_four_25 : decode cX0_four 25 = .ok (.iconst 1, 1) := dk_4 (dk_at dksX0_four_1 3 rfl rfl)
theorem dX0_four_26 : decode cX0_four 26 = .ok (.iadd, 1) := dk_96 (dk_at dksX0_four_1 4 rfl rfl)
theorem dX0_four_27 : decode cX0_four 27 = .ok (.putfield 148, 3) := dk_181 0 148 (dk_at dksX0_four_1 5 rfl rfl)
theorem dX0_four_30 : decode cX0_four 30 = .ok (.iinc 2 (-8), 3) := dk_132 2 248 (dk_at dksX0_four_1 8 rfl rfl)
theorem dX0_four_33 : decode cX0_four 33 = .ok (.goto (-30), 3) := dk_167 255 226 (dk_at dksX0_four_1 11 rfl rfl)
theorem dX0_four_36 : decode cX0_four 36 = .ok (.return_, 1) := dk_177 (dk_at dksX0_four_1 14 rfl rfl)
abbrev cX0_end : ByteArray := prog_1_method_16_code
def yX0_end : MethodName := ⟨RX0, "end", "(I)I"⟩
def dkwX0_end_0 : List UInt8 := [27, 133, 9, 42, 180, 0, 148, 133, 184, 0, 128, 154, 0, 5, 2, 172, 42, 27, 181, 0, 148, 27, 172]
abbrev dktX0_end_0 : List UInt8 := dkwX0_end_0 ++ []
theorem dksX0_end_0 : cX0_end.data.toList.drop 0 = dktX0_end_0 := by decide +kernel
theorem dX0_end_0 : decode cX0_end 0 = .ok (.iload_n 1, 1) := dk_27 (dk_at dksX0_end_0 0 rfl rfl)
theorem dX0_end_1 : decode cX0_end 1 = .ok (.i2l, 1) := dk_133 (dk_at dksX0_end_0 1 rfl rfl)
theorem dX0_end_2 : decode cX0_end 2 = .ok (.lconst 0, 1) := dk_9 (dk_at dksX0_end_0 2 rfl rfl)
theorem dX0_end_3 : decode cX0_end 3 = .ok (.aload_n 0, 1) := dk_42 (dk_at dksX0_end_0 3 rfl rfl)
theorem dX0_end_4 : decode cX0_end 4 = .ok (.getfield 148, 3) := dk_180 0 148 (dk_at dksX0_end_0 4 rfl rfl)
theorem dX0_end_7 : decode cX0_end 7 = .ok (.i2l, 1) := dk_133 (dk_at dksX0_end_0 7 rfl rfl)
theorem dX0_end_8 : decode cX0_end 8 = .ok (.invokestatic 128, 3) := dk_184 0 128 (dk_at dksX0_end_0 8 rfl rfl)
theorem dX0_end_11 : decode cX0_end 11 = .ok (.ifCond .ne 5, 3) := dk_154 0 5 (dk_at dksX0_end_0 11 rfl rfl)
theorem dX0_end_14 : decode cX0_end 14 = .ok (.iconst (-1), 1) := dk_2 (dk_at dksX0_end_0 14 rfl rfl)
theorem dX0_end_15 : decode cX0_end 15 = .ok (.ireturn, 1) := dk_172 (dk_at dksX0_end_0 15 rfl rfl)
theorem dX0_end_16 : decode cX0_end 16 = .ok (.aload_n 0, 1) := dk_42 (dk_at dksX0_end_0 16 rfl rfl)
theorem dX0_end_17 : decode cX0_end 17 = .ok (.iload_n 1, 1) := dk_27 (dk_at dksX0_end_0 17 rfl rfl)
theorem dX0_end_18 : decode cX0_end 18 = .ok (.putfield 148, 3) := dk_181 0 148 (dk_at dksX0_end_0 18 rfl rfl)
theorem dX0_end_21 : decode cX0_end 21 = .ok (.iload_n 1, 1) := dk_27 (dk_at dksX0_end_0 21 rfl rfl)
theorem dX0_end_22 : decode cX0_end 22 = .ok (.ireturn, 1) := dk_172 (dk_at dksX0_end_0 22 rfl rfl)
abbrev cX0_in : ByteArray := prog_1_method_1_code
def yX0_in : MethodName := ⟨RX0, "in", "(JJJ)Z"⟩
def dkwX0_in_0 : List UInt8 := [30, 32, 148, 155, 0, 14, 30, 22, 4, 148, 157, 0, 7, 4, 167, 0, 4, 3, 172]
abbrev dktX0_in_0 : List UInt8 := dkwX0_in_0 ++ []
theorem dksX0_in_0 : cX0_in.data.toList.drop 0 = dktX0_in_0 := by decide +kernel
theorem dX0_in_0 : decode cX0_in 0 = .ok (.lload_n 0, 1) := dk_30 (dk_at dksX0_in_0 0 rfl rfl)
theorem dX0_in_1 : decode cX0_in 1 = .ok (.lload_n 2, 1) := dk_32 (dk_at dksX0_in_0 1 rfl rfl)
theorem dX0_in_2 : decode cX0_in 2 = .ok (.lcmp, 1) := dk_148 (dk_at dksX0_in_0 2 rfl rfl)
theorem dX0_in_3 : decode cX0_in 3 = .ok (.ifCond .lt 14, 3) := dk_155 0 14 (dk_at dksX0_in_0 3 rfl rfl)
theorem dX0_in_6 : decode cX0_in 6 = .ok (.lload_n 0, 1) := dk_30 (dk_at dksX0_in_0 6 rfl rfl)
theorem dX0_in_7 : decode cX0_in 7 = .ok (.lload 4, 2) := dk_22 4 (dk_at dksX0_in_0 7 rfl rfl)
theorem dX0_in_9 : decode cX0_in 9 = .ok (.lcmp, 1) := dk_148 (dk_at dksX0_in_0 9 rfl rfl)
theorem dX0_in_10 : decode cX0_in 10 = .ok (.ifCond .gt 7, 3) := dk_157 0 7 (dk_at dksX0_in_0 10 rfl rfl)
theorem dX0_in_13 : decode cX0_in 13 = .ok (.iconst 1, 1) := dk_4 (dk_at dksX0_in_0 13 rfl rfl)
theorem dX0_in_14 : decode cX0_in 14 = .ok (.goto 4, 3) := dk_167 0 4 (dk_at dksX0_in_0 14 rfl rfl)
theorem dX0_in_17 : decode cX0_in 17 = .ok (.iconst 0, 1) := dk_3 (dk_at dksX0_in_0 17 rfl rfl)
theorem dX0_in_18 : decode cX0_in 18 = .ok (.ireturn, 1) := dk_172 (dk_at dksX0_in_0 18 rfl rfl)
abbrev cX0_book : ByteArray := prog_1_method_20_code
def yX0_book : MethodName := ⟨RX0, "book", "(II)I"⟩
def dkwX0_book_0 : List UInt8 := [42, 42, 27, 28, 3, 182, 0, 165, 182, 0, 169, 172]
abbrev dktX0_book_0 : List UInt8 := dkwX0_book_0 ++ []
theorem dksX0_book_0 : cX0_book.data.toList.drop 0 = dktX0_book_0 := by decide +kernel
theorem dX0_book_0 : decode cX0_book 0 = .ok (.aload_n 0, 1) := dk_42 (dk_at dksX0_book_0 0 rfl rfl)
theorem dX0_book_1 : decode cX0_book 1 = .ok (.aload_n 0, 1) := dk_42 (dk_at dksX0_book_0 1 rfl rfl)
theorem dX0_book_2 : decode cX0_book 2 = .ok (.iload_n 1, 1) := dk_27 (dk_at dksX0_book_0 2 rfl rfl)
theorem dX0_book_3 : decode cX0_book 3 = .ok (.iload_n 2, 1) := dk_28 (dk_at dksX0_book_0 3 rfl rfl)
theorem dX0_book_4 : decode cX0_book 4 = .ok (.iconst 0, 1) := dk_3 (dk_at dksX0_book_0 4 rfl rfl)
theorem dX0_book_5 : decode cX0_book 5 = .ok (.invokevirtual 165, 3) := dk_182 0 165 (dk_at dksX0_book_0 5 rfl rfl)
theorem dX0_book_8 : decode cX0_book 8 = .ok (.invokevirtual 169, 3) := dk_182 0 169 (dk_at dksX0_book_0 8 rfl rfl)
theorem dX0_book_11 : decode cX0_book 11 = .ok (.ireturn, 1) := dk_172 (dk_at dksX0_book_0 11 rfl rfl)
abbrev cX0_come : ByteArray := prog_1_method_19_code
def yX0_come : MethodName := ⟨RX0, "come", "(III)I"⟩
def dkwX0_come_5 : List UInt8 := [180, 0, 119, 90, 4, 96, 181, 0, 119, 172]
abbrev dktX0_come_5 : List UInt8 := dkwX0_come_5 ++ []
def dkwX0_come_4 : List UInt8 := [182, 0, 135, 89, 180, 0, 138, 4, 21, 4, 120, 2, 130, 126, 181, 0, 138, 42, 180, 0, 10, 89]
abbrev dktX0_come_4 : List UInt8 := dkwX0_come_4 ++ dktX0_come_5
def dkwX0_come_3 : List UInt8 := [180, 0, 10, 180, 0, 162, 21, 4, 28, 79, 42, 180, 0, 10, 180, 0, 145, 21, 4, 29, 79, 42]
abbrev dktX0_come_3 : List UInt8 := dkwX0_come_3 ++ dktX0_come_4
def dkwX0_come_2 : List UInt8 := [21, 4, 16, 8, 160, 0, 6, 16, 251, 172, 42, 180, 0, 10, 180, 0, 159, 21, 4, 27, 79, 42]
abbrev dktX0_come_2 : List UInt8 := dkwX0_come_2 ++ dktX0_come_3
def dkwX0_come_1 : List UInt8 := [29, 4, 42, 182, 0, 125, 120, 4, 100, 2, 130, 126, 153, 0, 5, 2, 172, 42, 182, 0, 125, 54, 4]
abbrev dktX0_come_1 : List UInt8 := dkwX0_come_1 ++ dktX0_come_2
def dkwX0_come_0 : List UInt8 := [27, 133, 10, 20, 0, 155, 184, 0, 128, 153, 0, 30, 28, 133, 9, 20, 0, 157, 184, 0, 128, 153, 0, 18]
abbrev dktX0_come_0 : List UInt8 := dkwX0_come_0 ++ dktX0_come_1
theorem dksX0_come_0 : cX0_come.data.toList.drop 0 = dktX0_come_0 := by decide +kernel
theorem dksX0_come_1 : cX0_come.data.toList.drop 24 = dktX0_come_1 := dk_seg dksX0_come_0 24 rfl rfl
theorem dksX0_come_2 : cX0_come.data.toList.drop 47 = dktX0_come_2 := dk_seg dksX0_come_1 23 rfl rfl
theorem dksX0_come_3 : cX0_come.data.toList.drop 69 = dktX0_come_3 := dk_seg dksX0_come_2 22 rfl rfl
theorem dksX0_come_4 : cX0_come.data.toList.drop 91 = dktX0_come_4 := dk_seg dksX0_come_3 22 rfl rfl
theorem dksX0_come_5 : cX0_come.data.toList.drop 113 = dktX0_come_5 := dk_seg dksX0_come_4 22 rfl rfl
theorem dX0_come_0 : decode cX0_come 0 = .ok (.iload_n 1, 1) := dk_27 (dk_at dksX0_come_0 0 rfl rfl)
theorem dX0_come_1 : decode cX0_come 1 = .ok (.i2l, 1) := dk_133 (dk_at dksX0_come_0 1 rfl rfl)
theorem dX0_come_2 : decode cX0_come 2 = .ok (.lconst 1, 1) := dk_10 (dk_at dksX0_come_0 2 rfl rfl)
theorem dX0_come_3 : decode cX0_come 3 = .ok (.ldc2_w 155, 3) := dk_20 0 155 (dk_at dksX0_come_0 3 rfl rfl)
theorem dX0_come_6 : decode cX0_come 6 = .ok (.invokestatic 128, 3) := dk_184 0 128 (dk_at dksX0_come_0 6 rfl rfl)
theorem dX0_come_9 : decode cX0_come 9 = .ok (.ifCond .eq 30, 3) := dk_153 0 30 (dk_at dksX0_come_0 9 rfl rfl)
theorem dX0_come_12 : decode cX0_come 12 = .ok (.iload_n 2, 1) := dk_28 (dk_at dksX0_come_0 12 rfl rfl)
theorem dX0_come_13 : decode cX0_come 13 = .ok (.i2l, 1) := dk_133 (dk_at dksX0_come_0 13 rfl rfl)
theorem dX0_come_14 : decode cX0_come 14 = .ok (.lconst 0, 1) := dk_9 (dk_at dksX0_come_0 14 rfl rfl)
theorem dX0_come_15 : decode cX0_come 15 = .ok (.ldc2_w 157, 3) := dk_20 0 157 (dk_at dksX0_come_0 15 rfl rfl)
theorem dX0_come_18 : decode cX0_come 18 = .ok (.invokestatic 128, 3) := dk_184 0 128 (dk_at dksX0_come_0 18 rfl rfl)
theorem dX0_come_21 : decode cX0_come 21 = .ok (.ifCond .eq 18, 3) := dk_153 0 18 (dk_at dksX0_come_0 21 rfl rfl)
theorem dX0_come_24 : decode cX0_come 24 = .ok (.iload_n 3, 1) := dk_29 (dk_at dksX0_come_1 0 rfl rfl)
theorem dX0_come_25 : decode cX0_come 25 = .ok (.iconst 1, 1) := dk_4 (dk_at dksX0_come_1 1 rfl rfl)
theorem dX0_come_26 : decode cX0_come 26 = .ok (.aload_n 0, 1) := dk_42 (dk_at dksX0_come_1 2 rfl rfl)
theorem dX0_come_27 : decode cX0_come 27 = .ok (.invokevirtual 125, 3) := dk_182 0 125 (dk_at dksX0_come_1 3 rfl rfl)
theorem dX0_come_30 : decode cX0_come 30 = .ok (.ishl, 1) := dk_120 (dk_at dksX0_come_1 6 rfl rfl)
theorem dX0_come_31 : decode cX0_come 31 = .ok (.iconst 1, 1) := dk_4 (dk_at dksX0_come_1 7 rfl rfl)
theorem dX0_come_32 : decode cX0_come 32 = .ok (.isub, 1) := dk_100 (dk_at dksX0_come_1 8 rfl rfl)
theorem dX0_come_33 : decode cX0_come 33 = .ok (.iconst (-1), 1) := dk_2 (dk_at dksX0_come_1 9 rfl rfl)
theorem dX0_come_34 : decode cX0_come 34 = .ok (.ixor, 1) := dk_130 (dk_at dksX0_come_1 10 rfl rfl)
theorem dX0_come_35 : decode cX0_come 35 = .ok (.iand, 1) := dk_126 (dk_at dksX0_come_1 11 rfl rfl)
theorem dX0_come_36 : decode cX0_come 36 = .ok (.ifCond .eq 5, 3) := dk_153 0 5 (dk_at dksX0_come_1 12 rfl rfl)
theorem dX0_come_39 : decode cX0_come 39 = .ok (.iconst (-1), 1) := dk_2 (dk_at dksX0_come_1 15 rfl rfl)
theorem dX0_come_40 : decode cX0_come 40 = .ok (.ireturn, 1) := dk_172 (dk_at dksX0_come_1 16 rfl rfl)
theorem dX0_come_41 : decode cX0_come 41 = .ok (.aload_n 0, 1) := dk_42 (dk_at dksX0_come_1 17 rfl rfl)
theorem dX0_come_42 : decode cX0_come 42 = .ok (.invokevirtual 125, 3) := dk_182 0 125 (dk_at dksX0_come_1 18 rfl rfl)
theorem dX0_come_45 : decode cX0_come 45 = .ok (.istore 4, 2) := dk_54 4 (dk_at dksX0_come_1 21 rfl rfl)
theorem dX0_come_47 : decode cX0_come 47 = .ok (.iload 4, 2) := dk_21 4 (dk_at dksX0_come_2 0 rfl rfl)
theorem dX0_come_49 : decode cX0_come 49 = .ok (.bipush 8, 2) := dk_16 8 (dk_at dksX0_come_2 2 rfl rfl)
theorem dX0_come_51 : decode cX0_come 51 = .ok (.if_icmp .ne 6, 3) := dk_160 0 6 (dk_at dksX0_come_2 4 rfl rfl)
theorem dX0_come_54 : decode cX0_come 54 = .ok (.bipush (-5), 2) := dk_16 251 (dk_at dksX0_come_2 7 rfl rfl)
theorem dX0_come_56 : decode cX0_come 56 = .ok (.ireturn, 1) := dk_172 (dk_at dksX0_come_2 9 rfl rfl)
theorem dX0_come_57 : decode cX0_come 57 = .ok (.aload_n 0, 1) := dk_42 (dk_at dksX0_come_2 10 rfl rfl)
theorem dX0_come_58 : decode cX0_come 58 = .ok (.getfield 10, 3) := dk_180 0 10 (dk_at dksX0_come_2 11 rfl rfl)
theorem dX0_come_61 : decode cX0_come 61 = .ok (.getfield 159, 3) := dk_180 0 159 (dk_at dksX0_come_2 14 rfl rfl)
theorem dX0_come_64 : decode cX0_come 64 = .ok (.iload 4, 2) := dk_21 4 (dk_at dksX0_come_2 17 rfl rfl)
theorem dX0_come_66 : decode cX0_come 66 = .ok (.iload_n 1, 1) := dk_27 (dk_at dksX0_come_2 19 rfl rfl)
theorem dX0_come_67 : decode cX0_come 67 = .ok (.iastore, 1) := dk_79 (dk_at dksX0_come_2 20 rfl rfl)
theorem dX0_come_68 : decode cX0_come 68 = .ok (.aload_n 0, 1) := dk_42 (dk_at dksX0_come_2 21 rfl rfl)
theorem dX0_come_69 : decode cX0_come 69 = .ok (.getfield 10, 3) := dk_180 0 10 (dk_at dksX0_come_3 0 rfl rfl)
theorem dX0_come_72 : decode cX0_come 72 = .ok (.getfield 162, 3) := dk_180 0 162 (dk_at dksX0_come_3 3 rfl rfl)
theorem dX0_come_75 : decode cX0_come 75 = .ok (.iload 4, 2) := dk_21 4 (dk_at dksX0_come_3 6 rfl rfl)
theorem dX0_come_77 : decode cX0_come 77 = .ok (.iload_n 2, 1) := dk_28 (dk_at dksX0_come_3 8 rfl rfl)
theorem dX0_come_78 : decode cX0_come 78 = .ok (.iastore, 1) := dk_79 (dk_at dksX0_come_3 9 rfl rfl)
theorem dX0_come_79 : decode cX0_come 79 = .ok (.aload_n 0, 1) := dk_42 (dk_at dksX0_come_3 10 rfl rfl)
theorem dX0_come_80 : decode cX0_come 80 = .ok (.getfield 10, 3) := dk_180 0 10 (dk_at dksX0_come_3 11 rfl rfl)
theorem dX0_come_83 : decode cX0_come 83 = .ok (.getfield 145, 3) := dk_180 0 145 (dk_at dksX0_come_3 14 rfl rfl)
theorem dX0_come_86 : decode cX0_come 86 = .ok (.iload 4, 2) := dk_21 4 (dk_at dksX0_come_3 17 rfl rfl)
theorem dX0_come_88 : decode cX0_come 88 = .ok (.iload_n 3, 1) := dk_29 (dk_at dksX0_come_3 19 rfl rfl)
theorem dX0_come_89 : decode cX0_come 89 = .ok (.iastore, 1) := dk_79 (dk_at dksX0_come_3 20 rfl rfl)
theorem dX0_come_90 : decode cX0_come 90 = .ok (.aload_n 0, 1) := dk_42 (dk_at dksX0_come_3 21 rfl rfl)
theorem dX0_come_91 : decode cX0_come 91 = .ok (.invokevirtual 135, 3) := dk_182 0 135 (dk_at dksX0_come_4 0 rfl rfl)
theorem dX0_come_94 : decode cX0_come 94 = .ok (.dup, 1) := dk_89 (dk_at dksX0_come_4 3 rfl rfl)
theorem dX0_come_95 : decode cX0_come 95 = .ok (.getfield 138, 3) := dk_180 0 138 (dk_at dksX0_come_4 4 rfl rfl)
theorem dX0_come_98 : decode cX0_come 98 = .ok (.iconst 1, 1) := dk_4 (dk_at dksX0_come_4 7 rfl rfl)
theorem dX0_come_99 : decode cX0_come 99 = .ok (.iload 4, 2) := dk_21 4 (dk_at dksX0_come_4 8 rfl rfl)
theorem dX0_come_101 : decode cX0_come 101 = .ok (.ishl, 1) := dk_120 (dk_at dksX0_come_4 10 rfl rfl)
theorem dX0_come_102 : decode cX0_come 102 = .ok (.iconst (-1), 1) := dk_2 (dk_at dksX0_come_4 11 rfl rfl)
theorem dX0_come_103 : decode cX0_come 103 = .ok (.ixor, 1) := dk_130 (dk_at dksX0_come_4 12 rfl rfl)
theorem dX0_come_104 : decode cX0_come 104 = .ok (.iand, 1) := dk_126 (dk_at dksX0_come_4 13 rfl rfl)
theorem dX0_come_105 : decode cX0_come 105 = .ok (.putfield 138, 3) := dk_181 0 138 (dk_at dksX0_come_4 14 rfl rfl)
theorem dX0_come_108 : decode cX0_come 108 = .ok (.aload_n 0, 1) := dk_42 (dk_at dksX0_come_4 17 rfl rfl)
theorem dX0_come_109 : decode cX0_come 109 = .ok (.getfield 10, 3) := dk_180 0 10 (dk_at dksX0_come_4 18 rfl rfl)
theorem dX0_come_112 : decode cX0_come 112 = .ok (.dup, 1) := dk_89 (dk_at dksX0_come_4 21 rfl rfl)
theorem dX0_come_113 : decode cX0_come 113 = .ok (.getfield 119, 3) := dk_180 0 119 (dk_at dksX0_come_5 0 rfl rfl)
theorem dX0_come_116 : decode cX0_come 116 = .ok (.dup_x1, 1) := dk_90 (dk_at dksX0_come_5 3 rfl rfl)
theorem dX0_come_117 : decode cX0_come 117 = .ok (.iconst 1, 1) := dk_4 (dk_at dksX0_come_5 4 rfl rfl)
theorem dX0_come_118 : decode cX0_come 118 = .ok (.iadd, 1) := dk_96 (dk_at dksX0_come_5 5 rfl rfl)
theorem dX0_come_119 : decode cX0_come 119 = .ok (.putfield 119, 3) := dk_181 0 119 (dk_at dksX0_come_5 6 rfl rfl)
theorem dX0_come_122 : decode cX0_come 122 = .ok (.ireturn, 1) := dk_172 (dk_at dksX0_come_5 9 rfl rfl)
abbrev cX0_nBooks : ByteArray := prog_1_method_8_code
def yX0_nBooks : MethodName := ⟨RX0, "nBooks", "()I"⟩
def dkwX0_nBooks_0 : List UInt8 := [42, 180, 0, 10, 180, 0, 119, 172]
abbrev dktX0_nBooks_0 : List UInt8 := dkwX0_nBooks_0 ++ []
theorem dksX0_nBooks_0 : cX0_nBooks.data.toList.drop 0 = dktX0_nBooks_0 := by decide +kernel
theorem dX0_nBooks_0 : decode cX0_nBooks 0 = .ok (.aload_n 0, 1) := dk_42 (dk_at dksX0_nBooks_0 0 rfl rfl)
theorem dX0_nBooks_1 : decode cX0_nBooks 1 = .ok (.getfield 10, 3) := dk_180 0 10 (dk_at dksX0_nBooks_0 1 rfl rfl)
theorem dX0_nBooks_4 : decode cX0_nBooks 4 = .ok (.getfield 119, 3) := dk_180 0 119 (dk_at dksX0_nBooks_0 4 rfl rfl)
theorem dX0_nBooks_7 : decode cX0_nBooks 7 = .ok (.ireturn, 1) := dk_172 (dk_at dksX0_nBooks_0 7 rfl rfl)
abbrev cX0_books : ByteArray := prog_1_method_7_code
def yX0_books : MethodName := ⟨RX0, "books", "()LLeekReadings$Books;"⟩
def dkwX0_books_0 : List UInt8 := [42, 180, 0, 10, 180, 0, 116, 176]
abbrev dktX0_books_0 : List UInt8 := dkwX0_books_0 ++ []
theorem dksX0_books_0 : cX0_books.data.toList.drop 0 = dktX0_books_0 := by decide +kernel
theorem dX0_books_0 : decode cX0_books 0 = .ok (.aload_n 0, 1) := dk_42 (dk_at dksX0_books_0 0 rfl rfl)
theorem dX0_books_1 : decode cX0_books 1 = .ok (.getfield 10, 3) := dk_180 0 10 (dk_at dksX0_books_0 1 rfl rfl)
theorem dX0_books_4 : decode cX0_books 4 = .ok (.getfield 116, 3) := dk_180 0 116 (dk_at dksX0_books_0 4 rfl rfl)
theorem dX0_books_7 : decode cX0_books 7 = .ok (.areturn, 1) := dk_176 (dk_at dksX0_books_0 7 rfl rfl)
abbrev cX0_settled : ByteArray := prog_1_method_5_code
def yX0_settled : MethodName := ⟨RX0, "settled", "(I)I"⟩
def dkwX0_settled_0 : List UInt8 := [27, 155, 0, 11, 42, 180, 0, 23, 3, 181, 0, 109, 42, 27, 182, 0, 112, 172]
abbrev dktX0_settled_0 : List UInt8 := dkwX0_settled_0 ++ []
theorem dksX0_settled_0 : cX0_settled.data.toList.drop 0 = dktX0_settled_0 := by decide +kernel
theorem dX0_settled_0 : decode cX0_settled 0 = .ok (.iload_n 1, 1) := dk_27 (dk_at dksX0_settled_0 0 rfl rfl)
theorem dX0_settled_1 : decode cX0_settled 1 = .ok (.ifCond .lt 11, 3) := dk_155 0 11 (dk_at dksX0_settled_0 1 rfl rfl)
theorem dX0_settled_4 : decode cX0_settled 4 = .ok (.aload_n 0, 1) := dk_42 (dk_at dksX0_settled_0 4 rfl rfl)
theorem dX0_settled_5 : decode cX0_settled 5 = .ok (.getfield 23, 3) := dk_180 0 23 (dk_at dksX0_settled_0 5 rfl rfl)
theorem dX0_settled_8 : decode cX0_settled 8 = .ok (.iconst 0, 1) := dk_3 (dk_at dksX0_settled_0 8 rfl rfl)
theorem dX0_settled_9 : decode cX0_settled 9 = .ok (.putfield 109, 3) := dk_181 0 109 (dk_at dksX0_settled_0 9 rfl rfl)
theorem dX0_settled_12 : decode cX0_settled 12 = .ok (.aload_n 0, 1) := dk_42 (dk_at dksX0_settled_0 12 rfl rfl)
theorem dX0_settled_13 : decode cX0_settled 13 = .ok (.iload_n 1, 1) := dk_27 (dk_at dksX0_settled_0 13 rfl rfl)
theorem dX0_settled_14 : decode cX0_settled 14 = .ok (.invokevirtual 112, 3) := dk_182 0 112 (dk_at dksX0_settled_0 14 rfl rfl)
theorem dX0_settled_17 : decode cX0_settled 17 = .ok (.ireturn, 1) := dk_172 (dk_at dksX0_settled_0 17 rfl rfl)
abbrev cX0_tell : ByteArray := prog_1_method_4_code
def yX0_tell : MethodName := ⟨RX0, "tell", "(I)I"⟩
def dkwX0_tell_1 : List UInt8 := [27, 172]
abbrev dktX0_tell_1 : List UInt8 := dkwX0_tell_1 ++ []
def dkwX0_tell_0 : List UInt8 := [42, 27, 3, 184, 0, 100, 181, 0, 106, 27, 156, 0, 14, 42, 180, 0, 61, 27, 116, 92, 46, 4, 96, 79]
abbrev dktX0_tell_0 : List UInt8 := dkwX0_tell_0 ++ dktX0_tell_1
theorem dksX0_tell_0 : cX0_tell.data.toList.drop 0 = dktX0_tell_0 := by decide +kernel
theorem dksX0_tell_1 : cX0_tell.data.toList.drop 24 = dktX0_tell_1 := dk_seg dksX0_tell_0 24 rfl rfl
theorem dX0_tell_0 : decode cX0_tell 0 = .ok (.aload_n 0, 1) := dk_42 (dk_at dksX0_tell_0 0 rfl rfl)
theorem dX0_tell_1 : decode cX0_tell 1 = .ok (.iload_n 1, 1) := dk_27 (dk_at dksX0_tell_0 1 rfl rfl)
theorem dX0_tell_2 : decode cX0_tell 2 = .ok (.iconst 0, 1) := dk_3 (dk_at dksX0_tell_0 2 rfl rfl)
theorem dX0_tell_3 : decode cX0_tell 3 = .ok (.invokestatic 100, 3) := dk_184 0 100 (dk_at dksX0_tell_0 3 rfl rfl)
theorem dX0_tell_6 : decode cX0_tell 6 = .ok (.putfield 106, 3) := dk_181 0 106 (dk_at dksX0_tell_0 6 rfl rfl)
theorem dX0_tell_9 : decode cX0_tell 9 = .ok (.iload_n 1, 1) := dk_27 (dk_at dksX0_tell_0 9 rfl rfl)
theorem dX0_tell_10 : decode cX0_tell 10 = .ok (.ifCond .ge 14, 3) := dk_156 0 14 (dk_at dksX0_tell_0 10 rfl rfl)
theorem dX0_tell_13 : decode cX0_tell 13 = .ok (.aload_n 0, 1) := dk_42 (dk_at dksX0_tell_0 13 rfl rfl)
theorem dX0_tell_14 : decode cX0_tell 14 = .ok (.getfield 61, 3) := dk_180 0 61 (dk_at dksX0_tell_0 14 rfl rfl)
theorem dX0_tell_17 : decode cX0_tell 17 = .ok (.iload_n 1, 1) := dk_27 (dk_at dksX0_tell_0 17 rfl rfl)
theorem dX0_tell_18 : decode cX0_tell 18 = .ok (.ineg, 1) := dk_116 (dk_at dksX0_tell_0 18 rfl rfl)
theorem dX0_tell_19 : decode cX0_tell 19 = .ok (.dup2, 1) := dk_92 (dk_at dksX0_tell_0 19 rfl rfl)
theorem dX0_tell_20 : decode cX0_tell 20 = .ok (.iaload, 1) := dk_46 (dk_at dksX0_tell_0 20 rfl rfl)
theorem dX0_tell_21 : decode cX0_tell 21 = .ok (.iconst 1, 1) := dk_4 (dk_at dksX0_tell_0 21 rfl rfl)
theorem dX0_tell_22 : decode cX0_tell 22 = .ok (.iadd, 1) := dk_96 (dk_at dksX0_tell_0 22 rfl rfl)
theorem dX0_tell_23 : decode cX0_tell 23 = .ok (.iastore, 1) := dk_79 (dk_at dksX0_tell_0 23 rfl rfl)
theorem dX0_tell_24 : decode cX0_tell 24 = .ok (.iload_n 1, 1) := dk_27 (dk_at dksX0_tell_1 0 rfl rfl)
theorem dX0_tell_25 : decode cX0_tell 25 = .ok (.ireturn, 1) := dk_172 (dk_at dksX0_tell_1 1 rfl rfl)
abbrev cX0_need : ByteArray := prog_1_method_21_code
def yX0_need : MethodName := ⟨RX0, "need", "(III)I"⟩
def dkwX0_need_3 : List UInt8 := [21, 4, 29, 160, 0, 7, 3, 167, 0, 6, 4, 28, 120, 130, 79, 42, 21, 4, 182, 0, 112, 172]
abbrev dktX0_need_3 : List UInt8 := dkwX0_need_3 ++ []
def dkwX0_need_2 : List UInt8 := [180, 0, 10, 180, 0, 145, 27, 46, 28, 122, 4, 126, 54, 4, 42, 180, 0, 10, 180, 0, 145, 27, 92, 46]
abbrev dktX0_need_2 : List UInt8 := dkwX0_need_2 ++ dktX0_need_3
def dkwX0_need_1 : List UInt8 := [182, 0, 172, 153, 0, 11, 42, 28, 182, 0, 172, 154, 0, 10, 42, 16, 254, 182, 0, 112, 172, 42]
abbrev dktX0_need_1 : List UInt8 := dkwX0_need_1 ++ dktX0_need_2
def dkwX0_need_0 : List UInt8 := [27, 28, 159, 0, 13, 29, 133, 9, 10, 184, 0, 128, 154, 0, 9, 42, 2, 182, 0, 112, 172, 42, 27]
abbrev dktX0_need_0 : List UInt8 := dkwX0_need_0 ++ dktX0_need_1
theorem dksX0_need_0 : cX0_need.data.toList.drop 0 = dktX0_need_0 := by decide +kernel
theorem dksX0_need_1 : cX0_need.data.toList.drop 23 = dktX0_need_1 := dk_seg dksX0_need_0 23 rfl rfl
theorem dksX0_need_2 : cX0_need.data.toList.drop 45 = dktX0_need_2 := dk_seg dksX0_need_1 22 rfl rfl
theorem dksX0_need_3 : cX0_need.data.toList.drop 69 = dktX0_need_3 := dk_seg dksX0_need_2 24 rfl rfl
theorem dX0_need_0 : decode cX0_need 0 = .ok (.iload_n 1, 1) := dk_27 (dk_at dksX0_need_0 0 rfl rfl)
theorem dX0_need_1 : decode cX0_need 1 = .ok (.iload_n 2, 1) := dk_28 (dk_at dksX0_need_0 1 rfl rfl)
theorem dX0_need_2 : decode cX0_need 2 = .ok (.if_icmp .eq 13, 3) := dk_159 0 13 (dk_at dksX0_need_0 2 rfl rfl)
theorem dX0_need_5 : decode cX0_need 5 = .ok (.iload_n 3, 1) := dk_29 (dk_at dksX0_need_0 5 rfl rfl)
theorem dX0_need_6 : decode cX0_need 6 = .ok (.i2l, 1) := dk_133 (dk_at dksX0_need_0 6 rfl rfl)
theorem dX0_need_7 : decode cX0_need 7 = .ok (.lconst 0, 1) := dk_9 (dk_at dksX0_need_0 7 rfl rfl)
theorem dX0_need_8 : decode cX0_need 8 = .ok (.lconst 1, 1) := dk_10 (dk_at dksX0_need_0 8 rfl rfl)
theorem dX0_need_9 : decode cX0_need 9 = .ok (.invokestatic 128, 3) := dk_184 0 128 (dk_at dksX0_need_0 9 rfl rfl)
theorem dX0_need_12 : decode cX0_need 12 = .ok (.ifCond .ne 9, 3) := dk_154 0 9 (dk_at dksX0_need_0 12 rfl rfl)
theorem dX0_need_15 : decode cX0_need 15 = .ok (.aload_n 0, 1) := dk_42 (dk_at dksX0_need_0 15 rfl rfl)
theorem dX0_need_16 : decode cX0_need 16 = .ok (.iconst (-1), 1) := dk_2 (dk_at dksX0_need_0 16 rfl rfl)
theorem dX0_need_17 : decode cX0_need 17 = .ok (.invokevirtual 112, 3) := dk_182 0 112 (dk_at dksX0_need_0 17 rfl rfl)
theorem dX0_need_20 : decode cX0_need 20 = .ok (.ireturn, 1) := dk_172 (dk_at dksX0_need_0 20 rfl rfl)
theorem dX0_need_21 : decode cX0_need 21 = .ok (.aload_n 0, 1) := dk_42 (dk_at dksX0_need_0 21 rfl rfl)
theorem dX0_need_22 : decode cX0_need 22 = .ok (.iload_n 1, 1) := dk_27 (dk_at dksX0_need_0 22 rfl rfl)
theorem dX0_need_23 : decode cX0_need 23 = .ok (.invokevirtual 172, 3) := dk_182 0 172 (dk_at dksX0_need_1 0 rfl rfl)
theorem dX0_need_26 : decode cX0_need 26 = .ok (.ifCond .eq 11, 3) := dk_153 0 11 (dk_at dksX0_need_1 3 rfl rfl)
theorem dX0_need_29 : decode cX0_need 29 = .ok (.aload_n 0, 1) := dk_42 (dk_at dksX0_need_1 6 rfl rfl)
theorem dX0_need_30 : decode cX0_need 30 = .ok (.iload_n 2, 1) := dk_28 (dk_at dksX0_need_1 7 rfl rfl)
theorem dX0_need_31 : decode cX0_need 31 = .ok (.invokevirtual 172, 3) := dk_182 0 172 (dk_at dksX0_need_1 8 rfl rfl)
theorem dX0_need_34 : decode cX0_need 34 = .ok (.ifCond .ne 10, 3) := dk_154 0 10 (dk_at dksX0_need_1 11 rfl rfl)
theorem dX0_need_37 : decode cX0_need 37 = .ok (.aload_n 0, 1) := dk_42 (dk_at dksX0_need_1 14 rfl rfl)
theorem dX0_need_38 : decode cX0_need 38 = .ok (.bipush (-2), 2) := dk_16 254 (dk_at dksX0_need_1 15 rfl rfl)
theorem dX0_need_40 : decode cX0_need 40 = .ok (.invokevirtual 112, 3) := dk_182 0 112 (dk_at dksX0_need_1 17 rfl rfl)
theorem dX0_need_43 : decode cX0_need 43 = .ok (.ireturn, 1) := dk_172 (dk_at dksX0_need_1 20 rfl rfl)
theorem dX0_need_44 : decode cX0_need 44 = .ok (.aload_n 0, 1) := dk_42 (dk_at dksX0_need_1 21 rfl rfl)
theorem dX0_need_45 : decode cX0_need 45 = .ok (.getfield 10, 3) := dk_180 0 10 (dk_at dksX0_need_2 0 rfl rfl)
theorem dX0_need_48 : decode cX0_need 48 = .ok (.getfield 145, 3) := dk_180 0 145 (dk_at dksX0_need_2 3 rfl rfl)
theorem dX0_need_51 : decode cX0_need 51 = .ok (.iload_n 1, 1) := dk_27 (dk_at dksX0_need_2 6 rfl rfl)
theorem dX0_need_52 : decode cX0_need 52 = .ok (.iaload, 1) := dk_46 (dk_at dksX0_need_2 7 rfl rfl)
theorem dX0_need_53 : decode cX0_need 53 = .ok (.iload_n 2, 1) := dk_28 (dk_at dksX0_need_2 8 rfl rfl)
theorem dX0_need_54 : decode cX0_need 54 = .ok (.ishr, 1) := dk_122 (dk_at dksX0_need_2 9 rfl rfl)
theorem dX0_need_55 : decode cX0_need 55 = .ok (.iconst 1, 1) := dk_4 (dk_at dksX0_need_2 10 rfl rfl)
theorem dX0_need_56 : decode cX0_need 56 = .ok (.iand, 1) := dk_126 (dk_at dksX0_need_2 11 rfl rfl)
theorem dX0_need_57 : decode cX0_need 57 = .ok (.istore 4, 2) := dk_54 4 (dk_at dksX0_need_2 12 rfl rfl)
theorem dX0_need_59 : decode cX0_need 59 = .ok (.aload_n 0, 1) := dk_42 (dk_at dksX0_need_2 14 rfl rfl)
theorem dX0_need_60 : decode cX0_need 60 = .ok (.getfield 10, 3) := dk_180 0 10 (dk_at dksX0_need_2 15 rfl rfl)
theorem dX0_need_63 : decode cX0_need 63 = .ok (.getfield 145, 3) := dk_180 0 145 (dk_at dksX0_need_2 18 rfl rfl)
theorem dX0_need_66 : decode cX0_need 66 = .ok (.iload_n 1, 1) := dk_27 (dk_at dksX0_need_2 21 rfl rfl)
theorem dX0_need_67 : decode cX0_need 67 = .ok (.dup2, 1) := dk_92 (dk_at dksX0_need_2 22 rfl rfl)
theorem dX0_need_68 : decode cX0_need 68 = .ok (.iaload, 1) := dk_46 (dk_at dksX0_need_2 23 rfl rfl)
theorem dX0_need_69 : decode cX0_need 69 = .ok (.iload 4, 2) := dk_21 4 (dk_at dksX0_need_3 0 rfl rfl)
theorem dX0_need_71 : decode cX0_need 71 = .ok (.iload_n 3, 1) := dk_29 (dk_at dksX0_need_3 2 rfl rfl)
theorem dX0_need_72 : decode cX0_need 72 = .ok (.if_icmp .ne 7, 3) := dk_160 0 7 (dk_at dksX0_need_3 3 rfl rfl)
theorem dX0_need_75 : decode cX0_need 75 = .ok (.iconst 0, 1) := dk_3 (dk_at dksX0_need_3 6 rfl rfl)
theorem dX0_need_76 : decode cX0_need 76 = .ok (.goto 6, 3) := dk_167 0 6 (dk_at dksX0_need_3 7 rfl rfl)
theorem dX0_need_79 : decode cX0_need 79 = .ok (.iconst 1, 1) := dk_4 (dk_at dksX0_need_3 10 rfl rfl)
theorem dX0_need_80 : decode cX0_need 80 = .ok (.iload_n 2, 1) := dk_28 (dk_at dksX0_need_3 11 rfl rfl)
theorem dX0_need_81 : decode cX0_need 81 = .ok (.ishl, 1) := dk_120 (dk_at dksX0_need_3 12 rfl rfl)
theorem dX0_need_82 : decode cX0_need 82 = .ok (.ixor, 1) := dk_130 (dk_at dksX0_need_3 13 rfl rfl)
theorem dX0_need_83 : decode cX0_need 83 = .ok (.iastore, 1) := dk_79 (dk_at dksX0_need_3 14 rfl rfl)
theorem dX0_need_84 : decode cX0_need 84 = .ok (.aload_n 0, 1) := dk_42 (dk_at dksX0_need_3 15 rfl rfl)
theorem dX0_need_85 : decode cX0_need 85 = .ok (.iload 4, 2) := dk_21 4 (dk_at dksX0_need_3 16 rfl rfl)
theorem dX0_need_87 : decode cX0_need 87 = .ok (.invokevirtual 112, 3) := dk_182 0 112 (dk_at dksX0_need_3 18 rfl rfl)
theorem dX0_need_90 : decode cX0_need 90 = .ok (.ireturn, 1) := dk_172 (dk_at dksX0_need_3 21 rfl rfl)
abbrev cX0_isBook : ByteArray := prog_1_method_10_code
def yX0_isBook : MethodName := ⟨RX0, "isBook", "(I)Z"⟩
def dkwX0_isBook_0 : List UInt8 := [27, 133, 9, 42, 182, 0, 125, 4, 100, 133, 184, 0, 128, 172]
abbrev dktX0_isBook_0 : List UInt8 := dkwX0_isBook_0 ++ []
theorem dksX0_isBook_0 : cX0_isBook.data.toList.drop 0 = dktX0_isBook_0 := by decide +kernel
theorem dX0_isBook_0 : decode cX0_isBook 0 = .ok (.iload_n 1, 1) := dk_27 (dk_at dksX0_isBook_0 0 rfl rfl)
theorem dX0_isBook_1 : decode cX0_isBook 1 = .ok (.i2l, 1) := dk_133 (dk_at dksX0_isBook_0 1 rfl rfl)
theorem dX0_isBook_2 : decode cX0_isBook 2 = .ok (.lconst 0, 1) := dk_9 (dk_at dksX0_isBook_0 2 rfl rfl)
theorem dX0_isBook_3 : decode cX0_isBook 3 = .ok (.aload_n 0, 1) := dk_42 (dk_at dksX0_isBook_0 3 rfl rfl)
theorem dX0_isBook_4 : decode cX0_isBook 4 = .ok (.invokevirtual 125, 3) := dk_182 0 125 (dk_at dksX0_isBook_0 4 rfl rfl)
theorem dX0_isBook_7 : decode cX0_isBook 7 = .ok (.iconst 1, 1) := dk_4 (dk_at dksX0_isBook_0 7 rfl rfl)
theorem dX0_isBook_8 : decode cX0_isBook 8 = .ok (.isub, 1) := dk_100 (dk_at dksX0_isBook_0 8 rfl rfl)
theorem dX0_isBook_9 : decode cX0_isBook 9 = .ok (.i2l, 1) := dk_133 (dk_at dksX0_isBook_0 9 rfl rfl)
theorem dX0_isBook_10 : decode cX0_isBook 10 = .ok (.invokestatic 128, 3) := dk_184 0 128 (dk_at dksX0_isBook_0 10 rfl rfl)
theorem dX0_isBook_13 : decode cX0_isBook 13 = .ok (.ireturn, 1) := dk_172 (dk_at dksX0_isBook_0 13 rfl rfl)
abbrev cX0_of : ByteArray := prog_1_method_22_code
def yX0_of : MethodName := ⟨RX0, "of", "(II)I"⟩
def dkwX0_of_5 : List UInt8 := [153, 0, 7, 4, 167, 0, 4, 3, 172, 2, 172]
abbrev dktX0_of_5 : List UInt8 := dkwX0_of_5 ++ []
def dkwX0_of_4 : List UInt8 := [182, 0, 135, 180, 0, 138, 182, 0, 179, 153, 0, 7, 4, 167, 0, 4, 3, 172, 42, 27, 182, 0, 182]
abbrev dktX0_of_4 : List UInt8 := dkwX0_of_4 ++ dktX0_of_5
def dkwX0_of_3 : List UInt8 := [180, 0, 145, 27, 46, 172, 42, 27, 182, 0, 176, 153, 0, 7, 4, 167, 0, 4, 3, 172, 42, 27, 42]
abbrev dktX0_of_3 : List UInt8 := dkwX0_of_3 ++ dktX0_of_4
def dkwX0_of_2 : List UInt8 := [42, 180, 0, 10, 180, 0, 159, 27, 46, 172, 42, 180, 0, 10, 180, 0, 162, 27, 46, 172, 42, 180, 0, 10]
abbrev dktX0_of_2 : List UInt8 := dkwX0_of_2 ++ dktX0_of_3
def dkwX0_of_1 : List UInt8 := [170, 0, 0, 0, 116, 0, 0, 0, 0, 0, 0, 0, 5, 0, 0, 0, 37, 0, 0, 0, 47, 0, 0, 0, 57, 0, 0, 0, 67, 0, 0, 0, 81, 0, 0, 0, 102]
abbrev dktX0_of_1 : List UInt8 := dkwX0_of_1 ++ dktX0_of_2
def dkwX0_of_0 : List UInt8 := [42, 27, 182, 0, 172, 154, 0, 5, 2, 172, 28]
abbrev dktX0_of_0 : List UInt8 := dkwX0_of_0 ++ dktX0_of_1
theorem dksX0_of_0 : cX0_of.data.toList.drop 0 = dktX0_of_0 := by decide +kernel
theorem dksX0_of_1 : cX0_of.data.toList.drop 11 = dktX0_of_1 := dk_seg dksX0_of_0 11 rfl rfl
theorem dksX0_of_2 : cX0_of.data.toList.drop 48 = dktX0_of_2 := dk_seg dksX0_of_1 37 rfl rfl
theorem dksX0_of_3 : cX0_of.data.toList.drop 72 = dktX0_of_3 := dk_seg dksX0_of_2 24 rfl rfl
theorem dksX0_of_4 : cX0_of.data.toList.drop 95 = dktX0_of_4 := dk_seg dksX0_of_3 23 rfl rfl
theorem dksX0_of_5 : cX0_of.data.toList.drop 118 = dktX0_of_5 := dk_seg dksX0_of_4 23 rfl rfl
theorem dX0_of_0 : decode cX0_of 0 = .ok (.aload_n 0, 1) := dk_42 (dk_at dksX0_of_0 0 rfl rfl)
theorem dX0_of_1 : decode cX0_of 1 = .ok (.iload_n 1, 1) := dk_27 (dk_at dksX0_of_0 1 rfl rfl)
theorem dX0_of_2 : decode cX0_of 2 = .ok (.invokevirtual 172, 3) := dk_182 0 172 (dk_at dksX0_of_0 2 rfl rfl)
theorem dX0_of_5 : decode cX0_of 5 = .ok (.ifCond .ne 5, 3) := dk_154 0 5 (dk_at dksX0_of_0 5 rfl rfl)
theorem dX0_of_8 : decode cX0_of 8 = .ok (.iconst (-1), 1) := dk_2 (dk_at dksX0_of_0 8 rfl rfl)
theorem dX0_of_9 : decode cX0_of 9 = .ok (.ireturn, 1) := dk_172 (dk_at dksX0_of_0 9 rfl rfl)
theorem dX0_of_10 : decode cX0_of 10 = .ok (.iload_n 2, 1) := dk_28 (dk_at dksX0_of_0 10 rfl rfl)
theorem dX0_of_11 : decode cX0_of 11 = .ok (.tableswitch 116 0 5 #[37, 47, 57, 67, 81, 102], 37) := by decide +kernel
theorem dX0_of_48 : decode cX0_of 48 = .ok (.aload_n 0, 1) := dk_42 (dk_at dksX0_of_2 0 rfl rfl)
theorem dX0_of_49 : decode cX0_of 49 = .ok (.getfield 10, 3) := dk_180 0 10 (dk_at dksX0_of_2 1 rfl rfl)
theorem dX0_of_52 : decode cX0_of 52 = .ok (.getfield 159, 3) := dk_180 0 159 (dk_at dksX0_of_2 4 rfl rfl)
theorem dX0_of_55 : decode cX0_of 55 = .ok (.iload_n 1, 1) := dk_27 (dk_at dksX0_of_2 7 rfl rfl)
theorem dX0_of_56 : decode cX0_of 56 = .ok (.iaload, 1) := dk_46 (dk_at dksX0_of_2 8 rfl rfl)
theorem dX0_of_57 : decode cX0_of 57 = .ok (.ireturn, 1) := dk_172 (dk_at dksX0_of_2 9 rfl rfl)
theorem dX0_of_58 : decode cX0_of 58 = .ok (.aload_n 0, 1) := dk_42 (dk_at dksX0_of_2 10 rfl rfl)
theorem dX0_of_59 : decode cX0_of 59 = .ok (.getfield 10, 3) := dk_180 0 10 (dk_at dksX0_of_2 11 rfl rfl)
theorem dX0_of_62 : decode cX0_of 62 = .ok (.getfield 162, 3) := dk_180 0 162 (dk_at dksX0_of_2 14 rfl rfl)
theorem dX0_of_65 : decode cX0_of 65 = .ok (.iload_n 1, 1) := dk_27 (dk_at dksX0_of_2 17 rfl rfl)
theorem dX0_of_66 : decode cX0_of 66 = .ok (.iaload, 1) := dk_46 (dk_at dksX0_of_2 18 rfl rfl)
theorem dX0_of_67 : decode cX0_of 67 = .ok (.ireturn, 1) := dk_172 (dk_at dksX0_of_2 19 rfl rfl)
theorem dX0_of_68 : decode cX0_of 68 = .ok (.aload_n 0, 1) := dk_42 (dk_at dksX0_of_2 20 rfl rfl)
theorem dX0_of_69 : decode cX0_of 69 = .ok (.getfield 10, 3) := dk_180 0 10 (dk_at dksX0_of_2 21 rfl rfl)
theorem dX0_of_72 : decode cX0_of 72 = .ok (.getfield 145, 3) := dk_180 0 145 (dk_at dksX0_of_3 0 rfl rfl)
theorem dX0_of_75 : decode cX0_of 75 = .ok (.iload_n 1, 1) := dk_27 (dk_at dksX0_of_3 3 rfl rfl)
theorem dX0_of_76 : decode cX0_of 76 = .ok (.iaload, 1) := dk_46 (dk_at dksX0_of_3 4 rfl rfl)
theorem dX0_of_77 : decode cX0_of 77 = .ok (.ireturn, 1) := dk_172 (dk_at dksX0_of_3 5 rfl rfl)
theorem dX0_of_78 : decode cX0_of 78 = .ok (.aload_n 0, 1) := dk_42 (dk_at dksX0_of_3 6 rfl rfl)
theorem dX0_of_79 : decode cX0_of 79 = .ok (.iload_n 1, 1) := dk_27 (dk_at dksX0_of_3 7 rfl rfl)
theorem dX0_of_80 : decode cX0_of 80 = .ok (.invokevirtual 176, 3) := dk_182 0 176 (dk_at dksX0_of_3 8 rfl rfl)
theorem dX0_of_83 : decode cX0_of 83 = .ok (.ifCond .eq 7, 3) := dk_153 0 7 (dk_at dksX0_of_3 11 rfl rfl)
theorem dX0_of_86 : decode cX0_of 86 = .ok (.iconst 1, 1) := dk_4 (dk_at dksX0_of_3 14 rfl rfl)
theorem dX0_of_87 : decode cX0_of 87 = .ok (.goto 4, 3) := dk_167 0 4 (dk_at dksX0_of_3 15 rfl rfl)
theorem dX0_of_90 : decode cX0_of 90 = .ok (.iconst 0, 1) := dk_3 (dk_at dksX0_of_3 18 rfl rfl)
theorem dX0_of_91 : decode cX0_of 91 = .ok (.ireturn, 1) := dk_172 (dk_at dksX0_of_3 19 rfl rfl)
theorem dX0_of_92 : decode cX0_of 92 = .ok (.aload_n 0, 1) := dk_42 (dk_at dksX0_of_3 20 rfl rfl)
theorem dX0_of_93 : decode cX0_of 93 = .ok (.iload_n 1, 1) := dk_27 (dk_at dksX0_of_3 21 rfl rfl)
theorem dX0_of_94 : decode cX0_of 94 = .ok (.aload_n 0, 1) := dk_42 (dk_at dksX0_of_3 22 rfl rfl)
theorem dX0_of_95 : decode cX0_of 95 = .ok (.invokevirtual 135, 3) := dk_182 0 135 (dk_at dksX0_of_4 0 rfl rfl)
theorem dX0_of_98 : decode cX0_of 98 = .ok (.getfield 138, 3) := dk_180 0 138 (dk_at dksX0_of_4 3 rfl rfl)
theorem dX0_of_101 : decode cX0_of 101 = .ok (.invokevirtual 179, 3) := dk_182 0 179 (dk_at dksX0_of_4 6 rfl rfl)
theorem dX0_of_104 : decode cX0_of 104 = .ok (.ifCond .eq 7, 3) := dk_153 0 7 (dk_at dksX0_of_4 9 rfl rfl)
theorem dX0_of_107 : decode cX0_of 107 = .ok (.iconst 1, 1) := dk_4 (dk_at dksX0_of_4 12 rfl rfl)
theorem dX0_of_108 : decode cX0_of 108 = .ok (.goto 4, 3) := dk_167 0 4 (dk_at dksX0_of_4 13 rfl rfl)
theorem dX0_of_111 : decode cX0_of 111 = .ok (.iconst 0, 1) := dk_3 (dk_at dksX0_of_4 16 rfl rfl)
theorem dX0_of_112 : decode cX0_of 112 = .ok (.ireturn, 1) := dk_172 (dk_at dksX0_of_4 17 rfl rfl)
theorem dX0_of_113 : decode cX0_of 113 = .ok (.aload_n 0, 1) := dk_42 (dk_at dksX0_of_4 18 rfl rfl)
theorem dX0_of_114 : decode cX0_of 114 = .ok (.iload_n 1, 1) := dk_27 (dk_at dksX0_of_4 19 rfl rfl)
theorem dX0_of_115 : decode cX0_of 115 = .ok (.invokevirtual 182, 3) := dk_182 0 182 (dk_at dksX0_of_4 20 rfl rfl)
theorem dX0_of_118 : decode cX0_of 118 = .ok (.ifCond .eq 7, 3) := dk_153 0 7 (dk_at dksX0_of_5 0 rfl rfl)
theorem dX0_of_121 : decode cX0_of 121 = .ok (.iconst 1, 1) := dk_4 (dk_at dksX0_of_5 3 rfl rfl)
theorem dX0_of_122 : decode cX0_of 122 = .ok (.goto 4, 3) := dk_167 0 4 (dk_at dksX0_of_5 4 rfl rfl)
theorem dX0_of_125 : decode cX0_of 125 = .ok (.iconst 0, 1) := dk_3 (dk_at dksX0_of_5 7 rfl rfl)
theorem dX0_of_126 : decode cX0_of 126 = .ok (.ireturn, 1) := dk_172 (dk_at dksX0_of_5 8 rfl rfl)
theorem dX0_of_127 : decode cX0_of 127 = .ok (.iconst (-1), 1) := dk_2 (dk_at dksX0_of_5 9 rfl rfl)
theorem dX0_of_128 : decode cX0_of 128 = .ok (.ireturn, 1) := dk_172 (dk_at dksX0_of_5 10 rfl rfl)
abbrev cX0_isRead : ByteArray := prog_1_method_12_code
def yX0_isRead : MethodName := ⟨RX0, "isRead", "(I)Z"⟩
def dkwX0_isRead_0 : List UInt8 := [42, 182, 0, 135, 180, 0, 138, 27, 184, 0, 141, 172]
abbrev dktX0_isRead_0 : List UInt8 := dkwX0_isRead_0 ++ []
theorem dksX0_isRead_0 : cX0_isRead.data.toList.drop 0 = dktX0_isRead_0 := by decide +kernel
theorem dX0_isRead_0 : decode cX0_isRead 0 = .ok (.aload_n 0, 1) := dk_42 (dk_at dksX0_isRead_0 0 rfl rfl)
theorem dX0_isRead_1 : decode cX0_isRead 1 = .ok (.invokevirtual 135, 3) := dk_182 0 135 (dk_at dksX0_isRead_0 1 rfl rfl)
theorem dX0_isRead_4 : decode cX0_isRead 4 = .ok (.getfield 138, 3) := dk_180 0 138 (dk_at dksX0_isRead_0 4 rfl rfl)
theorem dX0_isRead_7 : decode cX0_isRead 7 = .ok (.iload_n 1, 1) := dk_27 (dk_at dksX0_isRead_0 7 rfl rfl)
theorem dX0_isRead_8 : decode cX0_isRead 8 = .ok (.invokestatic 141, 3) := dk_184 0 141 (dk_at dksX0_isRead_0 8 rfl rfl)
theorem dX0_isRead_11 : decode cX0_isRead 11 = .ok (.ireturn, 1) := dk_172 (dk_at dksX0_isRead_0 11 rfl rfl)
abbrev cX0_has : ByteArray := prog_1_method_2_code
def yX0_has : MethodName := ⟨RX0, "has", "(II)Z"⟩
def dkwX0_has_0 : List UInt8 := [26, 27, 122, 4, 126, 4, 160, 0, 7, 4, 167, 0, 4, 3, 172]
abbrev dktX0_has_0 : List UInt8 := dkwX0_has_0 ++ []
theorem dksX0_has_0 : cX0_has.data.toList.drop 0 = dktX0_has_0 := by decide +kernel
theorem dX0_has_0 : decode cX0_has 0 = .ok (.iload_n 0, 1) := dk_26 (dk_at dksX0_has_0 0 rfl rfl)
theorem dX0_has_1 : decode cX0_has 1 = .ok (.iload_n 1, 1) := dk_27 (dk_at dksX0_has_0 1 rfl rfl)
theorem dX0_has_2 : decode cX0_has 2 = .ok (.ishr, 1) := dk_122 (dk_at dksX0_has_0 2 rfl rfl)
theorem dX0_has_3 : decode cX0_has 3 = .ok (.iconst 1, 1) := dk_4 (dk_at dksX0_has_0 3 rfl rfl)
theorem dX0_has_4 : decode cX0_has 4 = .ok (.iand, 1) := dk_126 (dk_at dksX0_has_0 4 rfl rfl)
theorem dX0_has_5 : decode cX0_has 5 = .ok (.iconst 1, 1) := dk_4 (dk_at dksX0_has_0 5 rfl rfl)
theorem dX0_has_6 : decode cX0_has 6 = .ok (.if_icmp .ne 7, 3) := dk_160 0 7 (dk_at dksX0_has_0 6 rfl rfl)
theorem dX0_has_9 : decode cX0_has 9 = .ok (.iconst 1, 1) := dk_4 (dk_at dksX0_has_0 9 rfl rfl)
theorem dX0_has_10 : decode cX0_has 10 = .ok (.goto 4, 3) := dk_167 0 4 (dk_at dksX0_has_0 10 rfl rfl)
theorem dX0_has_13 : decode cX0_has 13 = .ok (.iconst 0, 1) := dk_3 (dk_at dksX0_has_0 13 rfl rfl)
theorem dX0_has_14 : decode cX0_has 14 = .ok (.ireturn, 1) := dk_172 (dk_at dksX0_has_0 14 rfl rfl)
abbrev cX0_isOpen : ByteArray := prog_1_method_13_code
def yX0_isOpen : MethodName := ⟨RX0, "isOpen", "(II)Z"⟩
def dkwX0_isOpen_1 : List UInt8 := [4, 167, 0, 4, 3, 172]
abbrev dktX0_isOpen_1 : List UInt8 := dkwX0_isOpen_1 ++ []
def dkwX0_isOpen_0 : List UInt8 := [28, 27, 184, 0, 141, 154, 0, 23, 42, 180, 0, 10, 180, 0, 145, 27, 46, 28, 2, 130, 126, 154, 0, 7]
abbrev dktX0_isOpen_0 : List UInt8 := dkwX0_isOpen_0 ++ dktX0_isOpen_1
theorem dksX0_isOpen_0 : cX0_isOpen.data.toList.drop 0 = dktX0_isOpen_0 := by decide +kernel
theorem dksX0_isOpen_1 : cX0_isOpen.data.toList.drop 24 = dktX0_isOpen_1 := dk_seg dksX0_isOpen_0 24 rfl rfl
theorem dX0_isOpen_0 : decode cX0_isOpen 0 = .ok (.iload_n 2, 1) := dk_28 (dk_at dksX0_isOpen_0 0 rfl rfl)
theorem dX0_isOpen_1 : decode cX0_isOpen 1 = .ok (.iload_n 1, 1) := dk_27 (dk_at dksX0_isOpen_0 1 rfl rfl)
theorem dX0_isOpen_2 : decode cX0_isOpen 2 = .ok (.invokestatic 141, 3) := dk_184 0 141 (dk_at dksX0_isOpen_0 2 rfl rfl)
theorem dX0_isOpen_5 : decode cX0_isOpen 5 = .ok (.ifCond .ne 23, 3) := dk_154 0 23 (dk_at dksX0_isOpen_0 5 rfl rfl)
theorem dX0_isOpen_8 : decode cX0_isOpen 8 = .ok (.aload_n 0, 1) := dk_42 (dk_at dksX0_isOpen_0 8 rfl rfl)
theorem dX0_isOpen_9 : decode cX0_isOpen 9 = .ok (.getfield 10, 3) := dk_180 0 10 (dk_at dksX0_isOpen_0 9 rfl rfl)
theorem dX0_isOpen_12 : decode cX0_isOpen 12 = .ok (.getfield 145, 3) := dk_180 0 145 (dk_at dksX0_isOpen_0 12 rfl rfl)
theorem dX0_isOpen_15 : decode cX0_isOpen 15 = .ok (.iload_n 1, 1) := dk_27 (dk_at dksX0_isOpen_0 15 rfl rfl)
theorem dX0_isOpen_16 : decode cX0_isOpen 16 = .ok (.iaload, 1) := dk_46 (dk_at dksX0_isOpen_0 16 rfl rfl)
theorem dX0_isOpen_17 : decode cX0_isOpen 17 = .ok (.iload_n 2, 1) := dk_28 (dk_at dksX0_isOpen_0 17 rfl rfl)
theorem dX0_isOpen_18 : decode cX0_isOpen 18 = .ok (.iconst (-1), 1) := dk_2 (dk_at dksX0_isOpen_0 18 rfl rfl)
theorem dX0_isOpen_19 : decode cX0_isOpen 19 = .ok (.ixor, 1) := dk_130 (dk_at dksX0_isOpen_0 19 rfl rfl)
theorem dX0_isOpen_20 : decode cX0_isOpen 20 = .ok (.iand, 1) := dk_126 (dk_at dksX0_isOpen_0 20 rfl rfl)
theorem dX0_isOpen_21 : decode cX0_isOpen 21 = .ok (.ifCond .ne 7, 3) := dk_154 0 7 (dk_at dksX0_isOpen_0 21 rfl rfl)
theorem dX0_isOpen_24 : decode cX0_isOpen 24 = .ok (.iconst 1, 1) := dk_4 (dk_at dksX0_isOpen_1 0 rfl rfl)
theorem dX0_isOpen_25 : decode cX0_isOpen 25 = .ok (.goto 4, 3) := dk_167 0 4 (dk_at dksX0_isOpen_1 1 rfl rfl)
theorem dX0_isOpen_28 : decode cX0_isOpen 28 = .ok (.iconst 0, 1) := dk_3 (dk_at dksX0_isOpen_1 4 rfl rfl)
theorem dX0_isOpen_29 : decode cX0_isOpen 29 = .ok (.ireturn, 1) := dk_172 (dk_at dksX0_isOpen_1 5 rfl rfl)
abbrev cX0_isBarred : ByteArray := prog_1_method_39_code
def yX0_isBarred : MethodName := ⟨RX0, "isBarred", "(I)Z"⟩
def dkwX0_isBarred_0 : List UInt8 := [42, 2, 27, 182, 1, 26, 42, 182, 1, 30, 5, 42, 180, 0, 43, 182, 1, 37, 172]
abbrev dktX0_isBarred_0 : List UInt8 := dkwX0_isBarred_0 ++ []
theorem dksX0_isBarred_0 : cX0_isBarred.data.toList.drop 0 = dktX0_isBarred_0 := by decide +kernel
theorem dX0_isBarred_0 : decode cX0_isBarred 0 = .ok (.aload_n 0, 1) := dk_42 (dk_at dksX0_isBarred_0 0 rfl rfl)
theorem dX0_isBarred_1 : decode cX0_isBarred 1 = .ok (.iconst (-1), 1) := dk_2 (dk_at dksX0_isBarred_0 1 rfl rfl)
theorem dX0_isBarred_2 : decode cX0_isBarred 2 = .ok (.iload_n 1, 1) := dk_27 (dk_at dksX0_isBarred_0 2 rfl rfl)
theorem dX0_isBarred_3 : decode cX0_isBarred 3 = .ok (.invokevirtual 282, 3) := dk_182 1 26 (dk_at dksX0_isBarred_0 3 rfl rfl)
theorem dX0_isBarred_6 : decode cX0_isBarred 6 = .ok (.aload_n 0, 1) := dk_42 (dk_at dksX0_isBarred_0 6 rfl rfl)
theorem dX0_isBarred_7 : decode cX0_isBarred 7 = .ok (.invokevirtual 286, 3) := dk_182 1 30 (dk_at dksX0_isBarred_0 7 rfl rfl)
theorem dX0_isBarred_10 : decode cX0_isBarred 10 = .ok (.iconst 2, 1) := dk_5 (dk_at dksX0_isBarred_0 10 rfl rfl)
theorem dX0_isBarred_11 : decode cX0_isBarred 11 = .ok (.aload_n 0, 1) := dk_42 (dk_at dksX0_isBarred_0 11 rfl rfl)
theorem dX0_isBarred_12 : decode cX0_isBarred 12 = .ok (.getfield 43, 3) := dk_180 0 43 (dk_at dksX0_isBarred_0 12 rfl rfl)
theorem dX0_isBarred_15 : decode cX0_isBarred 15 = .ok (.invokevirtual 293, 3) := dk_182 1 37 (dk_at dksX0_isBarred_0 15 rfl rfl)
theorem dX0_isBarred_18 : decode cX0_isBarred 18 = .ok (.ireturn, 1) := dk_172 (dk_at dksX0_isBarred_0 18 rfl rfl)
abbrev cX0_about : ByteArray := prog_1_method_36_code
def yX0_about : MethodName := ⟨RX0, "about", "(II)V"⟩
def dkwX0_about_8 : List UInt8 := [180, 0, 10, 180, 0, 207, 5, 46, 133, 80, 177]
abbrev dktX0_about_8 : List UInt8 := dkwX0_about_8 ++ []
def dkwX0_about_7 : List UInt8 := [180, 1, 15, 16, 7, 42, 182, 0, 135, 180, 0, 204, 133, 80, 42, 180, 0, 43, 180, 1, 15, 16, 8, 42]
abbrev dktX0_about_7 : List UInt8 := dkwX0_about_7 ++ dktX0_about_8
def dkwX0_about_6 : List UInt8 := [180, 0, 43, 180, 1, 15, 16, 6, 42, 182, 0, 135, 180, 0, 138, 184, 1, 21, 133, 80, 42, 180, 0, 43]
abbrev dktX0_about_6 : List UInt8 := dkwX0_about_6 ++ dktX0_about_7
def dkwX0_about_5 : List UInt8 := [8, 28, 2, 160, 0, 9, 20, 1, 19, 167, 0, 13, 42, 180, 0, 10, 180, 0, 162, 28, 46, 133, 80, 42]
abbrev dktX0_about_5 : List UInt8 := dkwX0_about_5 ++ dktX0_about_6
def dkwX0_about_4 : List UInt8 := [20, 1, 19, 167, 0, 13, 42, 180, 0, 10, 180, 0, 159, 28, 46, 133, 80, 42, 180, 0, 43, 180, 1, 15]
abbrev dktX0_about_4 : List UInt8 := dkwX0_about_4 ++ dktX0_about_5
def dkwX0_about_3 : List UInt8 := [180, 0, 43, 180, 1, 15, 6, 28, 133, 80, 42, 180, 0, 43, 180, 1, 15, 7, 28, 2, 160, 0, 9]
abbrev dktX0_about_3 : List UInt8 := dkwX0_about_3 ++ dktX0_about_4
def dkwX0_about_2 : List UInt8 := [5, 27, 2, 160, 0, 9, 20, 1, 19, 167, 0, 13, 42, 182, 0, 135, 180, 0, 188, 27, 46, 133, 80, 42]
abbrev dktX0_about_2 : List UInt8 := dkwX0_about_2 ++ dktX0_about_3
def dkwX0_about_1 : List UInt8 := [20, 1, 19, 167, 0, 13, 42, 180, 0, 10, 180, 0, 185, 27, 46, 133, 80, 42, 180, 0, 43, 180, 1, 15]
abbrev dktX0_about_1 : List UInt8 := dkwX0_about_1 ++ dktX0_about_2
def dkwX0_about_0 : List UInt8 := [42, 180, 0, 43, 180, 1, 15, 3, 27, 133, 80, 42, 180, 0, 43, 180, 1, 15, 4, 27, 2, 160, 0, 9]
abbrev dktX0_about_0 : List UInt8 := dkwX0_about_0 ++ dktX0_about_1
theorem dksX0_about_0 : cX0_about.data.toList.drop 0 = dktX0_about_0 := by decide +kernel
theorem dksX0_about_1 : cX0_about.data.toList.drop 24 = dktX0_about_1 := dk_seg dksX0_about_0 24 rfl rfl
theorem dksX0_about_2 : cX0_about.data.toList.drop 48 = dktX0_about_2 := dk_seg dksX0_about_1 24 rfl rfl
theorem dksX0_about_3 : cX0_about.data.toList.drop 72 = dktX0_about_3 := dk_seg dksX0_about_2 24 rfl rfl
theorem dksX0_about_4 : cX0_about.data.toList.drop 95 = dktX0_about_4 := dk_seg dksX0_about_3 23 rfl rfl
theorem dksX0_about_5 : cX0_about.data.toList.drop 119 = dktX0_about_5 := dk_seg dksX0_about_4 24 rfl rfl
theorem dksX0_about_6 : cX0_about.data.toList.drop 143 = dktX0_about_6 := dk_seg dksX0_about_5 24 rfl rfl
theorem dksX0_about_7 : cX0_about.data.toList.drop 167 = dktX0_about_7 := dk_seg dksX0_about_6 24 rfl rfl
theorem dksX0_about_8 : cX0_about.data.toList.drop 191 = dktX0_about_8 := dk_seg dksX0_about_7 24 rfl rfl
theorem dX0_about_0 : decode cX0_about 0 = .ok (.aload_n 0, 1) := dk_42 (dk_at dksX0_about_0 0 rfl rfl)
theorem dX0_about_1 : decode cX0_about 1 = .ok (.getfield 43, 3) := dk_180 0 43 (dk_at dksX0_about_0 1 rfl rfl)
theorem dX0_about_4 : decode cX0_about 4 = .ok (.getfield 271, 3) := dk_180 1 15 (dk_at dksX0_about_0 4 rfl rfl)
theorem dX0_about_7 : decode cX0_about 7 = .ok (.iconst 0, 1) := dk_3 (dk_at dksX0_about_0 7 rfl rfl)
theorem dX0_about_8 : decode cX0_about 8 = .ok (.iload_n 1, 1) := dk_27 (dk_at dksX0_about_0 8 rfl rfl)
theorem dX0_about_9 : decode cX0_about 9 = .ok (.i2l, 1) := dk_133 (dk_at dksX0_about_0 9 rfl rfl)
theorem dX0_about_10 : decode cX0_about 10 = .ok (.lastore, 1) := dk_80 (dk_at dksX0_about_0 10 rfl rfl)
theorem dX0_about_11 : decode cX0_about 11 = .ok (.aload_n 0, 1) := dk_42 (dk_at dksX0_about_0 11 rfl rfl)
theorem dX0_about_12 : decode cX0_about 12 = .ok (.getfield 43, 3) := dk_180 0 43 (dk_at dksX0_about_0 12 rfl rfl)
theorem dX0_about_15 : decode cX0_about 15 = .ok (.getfield 271, 3) := dk_180 1 15 (dk_at dksX0_about_0 15 rfl rfl)
theorem dX0_about_18 : decode cX0_about 18 = .ok (.iconst 1, 1) := dk_4 (dk_at dksX0_about_0 18 rfl rfl)
theorem dX0_about_19 : decode cX0_about 19 = .ok (.iload_n 1, 1) := dk_27 (dk_at dksX0_about_0 19 rfl rfl)
theorem dX0_about_20 : decode cX0_about 20 = .ok (.iconst (-1), 1) := dk_2 (dk_at dksX0_about_0 20 rfl rfl)
theorem dX0_about_21 : decode cX0_about 21 = .ok (.if_icmp .ne 9, 3) := dk_160 0 9 (dk_at dksX0_about_0 21 rfl rfl)
theorem dX0_about_24 : decode cX0_about 24 = .ok (.ldc2_w 275, 3) := dk_20 1 19 (dk_at dksX0_about_1 0 rfl rfl)
theorem dX0_about_27 : decode cX0_about 27 = .ok (.goto 13, 3) := dk_167 0 13 (dk_at dksX0_about_1 3 rfl rfl)
theorem dX0_about_30 : decode cX0_about 30 = .ok (.aload_n 0, 1) := dk_42 (dk_at dksX0_about_1 6 rfl rfl)
theorem dX0_about_31 : decode cX0_about 31 = .ok (.getfield 10, 3) := dk_180 0 10 (dk_at dksX0_about_1 7 rfl rfl)
theorem dX0_about_34 : decode cX0_about 34 = .ok (.getfield 185, 3) := dk_180 0 185 (dk_at dksX0_about_1 10 rfl rfl)
theorem dX0_about_37 : decode cX0_about 37 = .ok (.iload_n 1, 1) := dk_27 (dk_at dksX0_about_1 13 rfl rfl)
theorem dX0_about_38 : decode cX0_about 38 = .ok (.iaload, 1) := dk_46 (dk_at dksX0_about_1 14 rfl rfl)
theorem dX0_about_39 : decode cX0_about 39 = .ok (.i2l, 1) := dk_133 (dk_at dksX0_about_1 15 rfl rfl)
theorem dX0_about_40 : decode cX0_about 40 = .ok (.lastore, 1) := dk_80 (dk_at dksX0_about_1 16 rfl rfl)
theorem dX0_about_41 : decode cX0_about 41 = .ok (.aload_n 0, 1) := dk_42 (dk_at dksX0_about_1 17 rfl rfl)
theorem dX0_about_42 : decode cX0_about 42 = .ok (.getfield 43, 3) := dk_180 0 43 (dk_at dksX0_about_1 18 rfl rfl)
theorem dX0_about_45 : decode cX0_about 45 = .ok (.getfield 271, 3) := dk_180 1 15 (dk_at dksX0_about_1 21 rfl rfl)
theorem dX0_about_48 : decode cX0_about 48 = .ok (.iconst 2, 1) := dk_5 (dk_at dksX0_about_2 0 rfl rfl)
theorem dX0_about_49 : decode cX0_about 49 = .ok (.iload_n 1, 1) := dk_27 (dk_at dksX0_about_2 1 rfl rfl)
theorem dX0_about_50 : decode cX0_about 50 = .ok (.iconst (-1), 1) := dk_2 (dk_at dksX0_about_2 2 rfl rfl)
theorem dX0_about_51 : decode cX0_about 51 = .ok (.if_icmp .ne 9, 3) := dk_160 0 9 (dk_at dksX0_about_2 3 rfl rfl)
theorem dX0_about_54 : decode cX0_about 54 = .ok (.ldc2_w 275, 3) := dk_20 1 19 (dk_at dksX0_about_2 6 rfl rfl)
theorem dX0_about_57 : decode cX0_about 57 = .ok (.goto 13, 3) := dk_167 0 13 (dk_at dksX0_about_2 9 rfl rfl)
theorem dX0_about_60 : decode cX0_about 60 = .ok (.aload_n 0, 1) := dk_42 (dk_at dksX0_about_2 12 rfl rfl)
theorem dX0_about_61 : decode cX0_about 61 = .ok (.invokevirtual 135, 3) := dk_182 0 135 (dk_at dksX0_about_2 13 rfl rfl)
theorem dX0_about_64 : decode cX0_about 64 = .ok (.getfield 188, 3) := dk_180 0 188 (dk_at dksX0_about_2 16 rfl rfl)
theorem dX0_about_67 : decode cX0_about 67 = .ok (.iload_n 1, 1) := dk_27 (dk_at dksX0_about_2 19 rfl rfl)
theorem dX0_about_68 : decode cX0_about 68 = .ok (.iaload, 1) := dk_46 (dk_at dksX0_about_2 20 rfl rfl)
theorem dX0_about_69 : decode cX0_about 69 = .ok (.i2l, 1) := dk_133 (dk_at dksX0_about_2 21 rfl rfl)
theorem dX0_about_70 : decode cX0_about 70 = .ok (.lastore, 1) := dk_80 (dk_at dksX0_about_2 22 rfl rfl)
theorem dX0_about_71 : decode cX0_about 71 = .ok (.aload_n 0, 1) := dk_42 (dk_at dksX0_about_2 23 rfl rfl)
theorem dX0_about_72 : decode cX0_about 72 = .ok (.getfield 43, 3) := dk_180 0 43 (dk_at dksX0_about_3 0 rfl rfl)
theorem dX0_about_75 : decode cX0_about 75 = .ok (.getfield 271, 3) := dk_180 1 15 (dk_at dksX0_about_3 3 rfl rfl)
theorem dX0_about_78 : decode cX0_about 78 = .ok (.iconst 3, 1) := dk_6 (dk_at dksX0_about_3 6 rfl rfl)
theorem dX0_about_79 : decode cX0_about 79 = .ok (.iload_n 2, 1) := dk_28 (dk_at dksX0_about_3 7 rfl rfl)
theorem dX0_about_80 : decode cX0_about 80 = .ok (.i2l, 1) := dk_133 (dk_at dksX0_about_3 8 rfl rfl)
theorem dX0_about_81 : decode cX0_about 81 = .ok (.lastore, 1) := dk_80 (dk_at dksX0_about_3 9 rfl rfl)
theorem dX0_about_82 : decode cX0_about 82 = .ok (.aload_n 0, 1) := dk_42 (dk_at dksX0_about_3 10 rfl rfl)
theorem dX0_about_83 : decode cX0_about 83 = .ok (.getfield 43, 3) := dk_180 0 43 (dk_at dksX0_about_3 11 rfl rfl)
theorem dX0_about_86 : decode cX0_about 86 = .ok (.getfield 271, 3) := dk_180 1 15 (dk_at dksX0_about_3 14 rfl rfl)
theorem dX0_about_89 : decode cX0_about 89 = .ok (.iconst 4, 1) := dk_7 (dk_at dksX0_about_3 17 rfl rfl)
theorem dX0_about_90 : decode cX0_about 90 = .ok (.iload_n 2, 1) := dk_28 (dk_at dksX0_about_3 18 rfl rfl)
theorem dX0_about_91 : decode cX0_about 91 = .ok (.iconst (-1), 1) := dk_2 (dk_at dksX0_about_3 19 rfl rfl)
theorem dX0_about_92 : decode cX0_about 92 = .ok (.if_icmp .ne 9, 3) := dk_160 0 9 (dk_at dksX0_about_3 20 rfl rfl)
theorem dX0_about_95 : decode cX0_about 95 = .ok (.ldc2_w 275, 3) := dk_20 1 19 (dk_at dksX0_about_4 0 rfl rfl)
theorem dX0_about_98 : decode cX0_about 98 = .ok (.goto 13, 3) := dk_167 0 13 (dk_at dksX0_about_4 3 rfl rfl)
theorem dX0_about_101 : decode cX0_about 101 = .ok (.aload_n 0, 1) := dk_42 (dk_at dksX0_about_4 6 rfl rfl)
theorem dX0_about_102 : decode cX0_about 102 = .ok (.getfield 10, 3) := dk_180 0 10 (dk_at dksX0_about_4 7 rfl rfl)
theorem dX0_about_105 : decode cX0_about 105 = .ok (.getfield 159, 3) := dk_180 0 159 (dk_at dksX0_about_4 10 rfl rfl)
theorem dX0_about_108 : decode cX0_about 108 = .ok (.iload_n 2, 1) := dk_28 (dk_at dksX0_about_4 13 rfl rfl)
theorem dX0_about_109 : decode cX0_about 109 = .ok (.iaload, 1) := dk_46 (dk_at dksX0_about_4 14 rfl rfl)
theorem dX0_about_110 : decode cX0_about 110 = .ok (.i2l, 1) := dk_133 (dk_at dksX0_about_4 15 rfl rfl)
theorem dX0_about_111 : decode cX0_about 111 = .ok (.lastore, 1) := dk_80 (dk_at dksX0_about_4 16 rfl rfl)
theorem dX0_about_112 : decode cX0_about 112 = .ok (.aload_n 0, 1) := dk_42 (dk_at dksX0_about_4 17 rfl rfl)
theorem dX0_about_113 : decode cX0_about 113 = .ok (.getfield 43, 3) := dk_180 0 43 (dk_at dksX0_about_4 18 rfl rfl)
theorem dX0_about_116 : decode cX0_about 116 = .ok (.getfield 271, 3) := dk_180 1 15 (dk_at dksX0_about_4 21 rfl rfl)
theorem dX0_about_119 : decode cX0_about 119 = .ok (.iconst 5, 1) := dk_8 (dk_at dksX0_about_5 0 rfl rfl)
theorem dX0_about_120 : decode cX0_about 120 = .ok (.iload_n 2, 1) := dk_28 (dk_at dksX0_about_5 1 rfl rfl)
theorem dX0_about_121 : decode cX0_about 121 = .ok (.iconst (-1), 1) := dk_2 (dk_at dksX0_about_5 2 rfl rfl)
theorem dX0_about_122 : decode cX0_about 122 = .ok (.if_icmp .ne 9, 3) := dk_160 0 9 (dk_at dksX0_about_5 3 rfl rfl)
theorem dX0_about_125 : decode cX0_about 125 = .ok (.ldc2_w 275, 3) := dk_20 1 19 (dk_at dksX0_about_5 6 rfl rfl)
theorem dX0_about_128 : decode cX0_about 128 = .ok (.goto 13, 3) := dk_167 0 13 (dk_at dksX0_about_5 9 rfl rfl)
theorem dX0_about_131 : decode cX0_about 131 = .ok (.aload_n 0, 1) := dk_42 (dk_at dksX0_about_5 12 rfl rfl)
theorem dX0_about_132 : decode cX0_about 132 = .ok (.getfield 10, 3) := dk_180 0 10 (dk_at dksX0_about_5 13 rfl rfl)
theorem dX0_about_135 : decode cX0_about 135 = .ok (.getfield 162, 3) := dk_180 0 162 (dk_at dksX0_about_5 16 rfl rfl)
theorem dX0_about_138 : decode cX0_about 138 = .ok (.iload_n 2, 1) := dk_28 (dk_at dksX0_about_5 19 rfl rfl)
theorem dX0_about_139 : decode cX0_about 139 = .ok (.iaload, 1) := dk_46 (dk_at dksX0_about_5 20 rfl rfl)
theorem dX0_about_140 : decode cX0_about 140 = .ok (.i2l, 1) := dk_133 (dk_at dksX0_about_5 21 rfl rfl)
theorem dX0_about_141 : decode cX0_about 141 = .ok (.lastore, 1) := dk_80 (dk_at dksX0_about_5 22 rfl rfl)
theorem dX0_about_142 : decode cX0_about 142 = .ok (.aload_n 0, 1) := dk_42 (dk_at dksX0_about_5 23 rfl rfl)
theorem dX0_about_143 : decode cX0_about 143 = .ok (.getfield 43, 3) := dk_180 0 43 (dk_at dksX0_about_6 0 rfl rfl)
theorem dX0_about_146 : decode cX0_about 146 = .ok (.getfield 271, 3) := dk_180 1 15 (dk_at dksX0_about_6 3 rfl rfl)
theorem dX0_about_149 : decode cX0_about 149 = .ok (.bipush 6, 2) := dk_16 6 (dk_at dksX0_about_6 6 rfl rfl)
theorem dX0_about_151 : decode cX0_about 151 = .ok (.aload_n 0, 1) := dk_42 (dk_at dksX0_about_6 8 rfl rfl)
theorem dX0_about_152 : decode cX0_about 152 = .ok (.invokevirtual 135, 3) := dk_182 0 135 (dk_at dksX0_about_6 9 rfl rfl)
theorem dX0_about_155 : decode cX0_about 155 = .ok (.getfield 138, 3) := dk_180 0 138 (dk_at dksX0_about_6 12 rfl rfl)
theorem dX0_about_158 : decode cX0_about 158 = .ok (.invokestatic 277, 3) := dk_184 1 21 (dk_at dksX0_about_6 15 rfl rfl)
theorem dX0_about_161 : decode cX0_about 161 = .ok (.i2l, 1) := dk_133 (dk_at dksX0_about_6 18 rfl rfl)
theorem dX0_about_162 : decode cX0_about 162 = .ok (.lastore, 1) := dk_80 (dk_at dksX0_about_6 19 rfl rfl)
theorem dX0_about_163 : decode cX0_about 163 = .ok (.aload_n 0, 1) := dk_42 (dk_at dksX0_about_6 20 rfl rfl)
theorem dX0_about_164 : decode cX0_about 164 = .ok (.getfield 43, 3) := dk_180 0 43 (dk_at dksX0_about_6 21 rfl rfl)
theorem dX0_about_167 : decode cX0_about 167 = .ok (.getfield 271, 3) := dk_180 1 15 (dk_at dksX0_about_7 0 rfl rfl)
theorem dX0_about_170 : decode cX0_about 170 = .ok (.bipush 7, 2) := dk_16 7 (dk_at dksX0_about_7 3 rfl rfl)
theorem dX0_about_172 : decode cX0_about 172 = .ok (.aload_n 0, 1) := dk_42 (dk_at dksX0_about_7 5 rfl rfl)
theorem dX0_about_173 : decode cX0_about 173 = .ok (.invokevirtual 135, 3) := dk_182 0 135 (dk_at dksX0_about_7 6 rfl rfl)
theorem dX0_about_176 : decode cX0_about 176 = .ok (.getfield 204, 3) := dk_180 0 204 (dk_at dksX0_about_7 9 rfl rfl)
theorem dX0_about_179 : decode cX0_about 179 = .ok (.i2l, 1) := dk_133 (dk_at dksX0_about_7 12 rfl rfl)
theorem dX0_about_180 : decode cX0_about 180 = .ok (.lastore, 1) := dk_80 (dk_at dksX0_about_7 13 rfl rfl)
theorem dX0_about_181 : decode cX0_about 181 = .ok (.aload_n 0, 1) := dk_42 (dk_at dksX0_about_7 14 rfl rfl)
theorem dX0_about_182 : decode cX0_about 182 = .ok (.getfield 43, 3) := dk_180 0 43 (dk_at dksX0_about_7 15 rfl rfl)
theorem dX0_about_185 : decode cX0_about 185 = .ok (.getfield 271, 3) := dk_180 1 15 (dk_at dksX0_about_7 18 rfl rfl)
theorem dX0_about_188 : decode cX0_about 188 = .ok (.bipush 8, 2) := dk_16 8 (dk_at dksX0_about_7 21 rfl rfl)
theorem dX0_about_190 : decode cX0_about 190 = .ok (.aload_n 0, 1) := dk_42 (dk_at dksX0_about_7 23 rfl rfl)
theorem dX0_about_191 : decode cX0_about 191 = .ok (.getfield 10, 3) := dk_180 0 10 (dk_at dksX0_about_8 0 rfl rfl)
theorem dX0_about_194 : decode cX0_about 194 = .ok (.getfield 207, 3) := dk_180 0 207 (dk_at dksX0_about_8 3 rfl rfl)
theorem dX0_about_197 : decode cX0_about 197 = .ok (.iconst 2, 1) := dk_5 (dk_at dksX0_about_8 6 rfl rfl)
theorem dX0_about_198 : decode cX0_about 198 = .ok (.iaload, 1) := dk_46 (dk_at dksX0_about_8 7 rfl rfl)
theorem dX0_about_199 : decode cX0_about 199 = .ok (.i2l, 1) := dk_133 (dk_at dksX0_about_8 8 rfl rfl)
theorem dX0_about_200 : decode cX0_about 200 = .ok (.lastore, 1) := dk_80 (dk_at dksX0_about_8 9 rfl rfl)
theorem dX0_about_201 : decode cX0_about 201 = .ok (.return_, 1) := dk_177 (dk_at dksX0_about_8 10 rfl rfl)
abbrev cX0_law1 : ByteArray := prog_1_method_35_code
def yX0_law1 : MethodName := ⟨RX0, "law1", "()LLeekReadings$Text;"⟩
def dkwX0_law1_1 : List UInt8 := [180, 0, 234, 42, 180, 0, 10, 180, 1, 8, 182, 1, 11, 192, 0, 50, 176]
abbrev dktX0_law1_1 : List UInt8 := dkwX0_law1_1 ++ []
def dkwX0_law1_0 : List UInt8 := [42, 180, 0, 10, 180, 1, 8, 2, 160, 0, 10, 42, 180, 0, 57, 167, 0, 23, 42, 180, 0, 10]
abbrev dktX0_law1_0 : List UInt8 := dkwX0_law1_0 ++ dktX0_law1_1
theorem dksX0_law1_0 : cX0_law1.data.toList.drop 0 = dktX0_law1_0 := by decide +kernel
theorem dksX0_law1_1 : cX0_law1.data.toList.drop 22 = dktX0_law1_1 := dk_seg dksX0_law1_0 22 rfl rfl
theorem dX0_law1_0 : decode cX0_law1 0 = .ok (.aload_n 0, 1) := dk_42 (dk_at dksX0_law1_0 0 rfl rfl)
theorem dX0_law1_1 : decode cX0_law1 1 = .ok (.getfield 10, 3) := dk_180 0 10 (dk_at dksX0_law1_0 1 rfl rfl)
theorem dX0_law1_4 : decode cX0_law1 4 = .ok (.getfield 264, 3) := dk_180 1 8 (dk_at dksX0_law1_0 4 rfl rfl)
theorem dX0_law1_7 : decode cX0_law1 7 = .ok (.iconst (-1), 1) := dk_2 (dk_at dksX0_law1_0 7 rfl rfl)
theorem dX0_law1_8 : decode cX0_law1 8 = .ok (.if_icmp .ne 10, 3) := dk_160 0 10 (dk_at dksX0_law1_0 8 rfl rfl)
theorem dX0_law1_11 : decode cX0_law1 11 = .ok (.aload_n 0, 1) := dk_42 (dk_at dksX0_law1_0 11 rfl rfl)
theorem dX0_law1_12 : decode cX0_law1 12 = .ok (.getfield 57, 3) := dk_180 0 57 (dk_at dksX0_law1_0 12 rfl rfl)
theorem dX0_law1_15 : decode cX0_law1 15 = .ok (.goto 23, 3) := dk_167 0 23 (dk_at dksX0_law1_0 15 rfl rfl)
theorem dX0_law1_18 : decode cX0_law1 18 = .ok (.aload_n 0, 1) := dk_42 (dk_at dksX0_law1_0 18 rfl rfl)
theorem dX0_law1_19 : decode cX0_law1 19 = .ok (.getfield 10, 3) := dk_180 0 10 (dk_at dksX0_law1_0 19 rfl rfl)
theorem dX0_law1_22 : decode cX0_law1 22 = .ok (.getfield 234, 3) := dk_180 0 234 (dk_at dksX0_law1_1 0 rfl rfl)
theorem dX0_law1_25 : decode cX0_law1 25 = .ok (.aload_n 0, 1) := dk_42 (dk_at dksX0_law1_1 3 rfl rfl)
theorem dX0_law1_26 : decode cX0_law1 26 = .ok (.getfield 10, 3) := dk_180 0 10 (dk_at dksX0_law1_1 4 rfl rfl)
theorem dX0_law1_29 : decode cX0_law1 29 = .ok (.getfield 264, 3) := dk_180 1 8 (dk_at dksX0_law1_1 7 rfl rfl)
theorem dX0_law1_32 : decode cX0_law1 32 = .ok (.invokevirtual 267, 3) := dk_182 1 11 (dk_at dksX0_law1_1 10 rfl rfl)
theorem dX0_law1_35 : decode cX0_law1 35 = .ok (.checkcast 50, 3) := dk_192 0 50 (dk_at dksX0_law1_1 13 rfl rfl)
theorem dX0_law1_38 : decode cX0_law1 38 = .ok (.areturn, 1) := dk_176 (dk_at dksX0_law1_1 16 rfl rfl)
abbrev cX0_isLeek : ByteArray := prog_1_method_11_code
def yX0_isLeek : MethodName := ⟨RX0, "isLeek", "(I)Z"⟩
def dkwX0_isLeek_0 : List UInt8 := [27, 133, 9, 42, 182, 0, 132, 4, 100, 133, 184, 0, 128, 172]
abbrev dktX0_isLeek_0 : List UInt8 := dkwX0_isLeek_0 ++ []
theorem dksX0_isLeek_0 : cX0_isLeek.data.toList.drop 0 = dktX0_isLeek_0 := by decide +kernel
theorem dX0_isLeek_0 : decode cX0_isLeek 0 = .ok (.iload_n 1, 1) := dk_27 (dk_at dksX0_isLeek_0 0 rfl rfl)
theorem dX0_isLeek_1 : decode cX0_isLeek 1 = .ok (.i2l, 1) := dk_133 (dk_at dksX0_isLeek_0 1 rfl rfl)
theorem dX0_isLeek_2 : decode cX0_isLeek 2 = .ok (.lconst 0, 1) := dk_9 (dk_at dksX0_isLeek_0 2 rfl rfl)
theorem dX0_isLeek_3 : decode cX0_isLeek 3 = .ok (.aload_n 0, 1) := dk_42 (dk_at dksX0_isLeek_0 3 rfl rfl)
theorem dX0_isLeek_4 : decode cX0_isLeek 4 = .ok (.invokevirtual 132, 3) := dk_182 0 132 (dk_at dksX0_isLeek_0 4 rfl rfl)
theorem dX0_isLeek_7 : decode cX0_isLeek 7 = .ok (.iconst 1, 1) := dk_4 (dk_at dksX0_isLeek_0 7 rfl rfl)
theorem dX0_isLeek_8 : decode cX0_isLeek 8 = .ok (.isub, 1) := dk_100 (dk_at dksX0_isLeek_0 8 rfl rfl)
theorem dX0_isLeek_9 : decode cX0_isLeek 9 = .ok (.i2l, 1) := dk_133 (dk_at dksX0_isLeek_0 9 rfl rfl)
theorem dX0_isLeek_10 : decode cX0_isLeek 10 = .ok (.invokestatic 128, 3) := dk_184 0 128 (dk_at dksX0_isLeek_0 10 rfl rfl)
theorem dX0_isLeek_13 : decode cX0_isLeek 13 = .ok (.ireturn, 1) := dk_172 (dk_at dksX0_isLeek_0 13 rfl rfl)
abbrev cX0_nLeeks : ByteArray := prog_1_method_9_code
def yX0_nLeeks : MethodName := ⟨RX0, "nLeeks", "()I"⟩
def dkwX0_nLeeks_0 : List UInt8 := [42, 180, 0, 10, 180, 0, 122, 172]
abbrev dktX0_nLeeks_0 : List UInt8 := dkwX0_nLeeks_0 ++ []
theorem dksX0_nLeeks_0 : cX0_nLeeks.data.toList.drop 0 = dktX0_nLeeks_0 := by decide +kernel
theorem dX0_nLeeks_0 : decode cX0_nLeeks 0 = .ok (.aload_n 0, 1) := dk_42 (dk_at dksX0_nLeeks_0 0 rfl rfl)
theorem dX0_nLeeks_1 : decode cX0_nLeeks 1 = .ok (.getfield 10, 3) := dk_180 0 10 (dk_at dksX0_nLeeks_0 1 rfl rfl)
theorem dX0_nLeeks_4 : decode cX0_nLeeks 4 = .ok (.getfield 122, 3) := dk_180 0 122 (dk_at dksX0_nLeeks_0 4 rfl rfl)
theorem dX0_nLeeks_7 : decode cX0_nLeeks 7 = .ok (.ireturn, 1) := dk_172 (dk_at dksX0_nLeeks_0 7 rfl rfl)
abbrev cX0_leek : ByteArray := prog_1_method_23_code
def yX0_leek : MethodName := ⟨RX0, "leek", "(I)I"⟩
def dkwX0_leek_3 : List UInt8 := [182, 0, 169, 172]
abbrev dktX0_leek_3 : List UInt8 := dkwX0_leek_3 ++ []
def dkwX0_leek_2 : List UInt8 := [182, 0, 135, 180, 0, 188, 28, 3, 79, 42, 180, 0, 10, 89, 180, 0, 122, 4, 96, 181, 0, 122, 42, 28]
abbrev dktX0_leek_2 : List UInt8 := dkwX0_leek_2 ++ dktX0_leek_3
def dkwX0_leek_1 : List UInt8 := [7, 160, 0, 10, 42, 16, 251, 182, 0, 112, 172, 42, 180, 0, 10, 180, 0, 185, 28, 27, 79, 42]
abbrev dktX0_leek_1 : List UInt8 := dkwX0_leek_1 ++ dktX0_leek_2
def dkwX0_leek_0 : List UInt8 := [27, 133, 9, 20, 0, 157, 184, 0, 128, 154, 0, 9, 42, 2, 182, 0, 112, 172, 42, 182, 0, 132, 61, 28]
abbrev dktX0_leek_0 : List UInt8 := dkwX0_leek_0 ++ dktX0_leek_1
theorem dksX0_leek_0 : cX0_leek.data.toList.drop 0 = dktX0_leek_0 := by decide +kernel
theorem dksX0_leek_1 : cX0_leek.data.toList.drop 24 = dktX0_leek_1 := dk_seg dksX0_leek_0 24 rfl rfl
theorem dksX0_leek_2 : cX0_leek.data.toList.drop 46 = dktX0_leek_2 := dk_seg dksX0_leek_1 22 rfl rfl
theorem dksX0_leek_3 : cX0_leek.data.toList.drop 70 = dktX0_leek_3 := dk_seg dksX0_leek_2 24 rfl rfl
theorem dX0_leek_0 : decode cX0_leek 0 = .ok (.iload_n 1, 1) := dk_27 (dk_at dksX0_leek_0 0 rfl rfl)
theorem dX0_leek_1 : decode cX0_leek 1 = .ok (.i2l, 1) := dk_133 (dk_at dksX0_leek_0 1 rfl rfl)
theorem dX0_leek_2 : decode cX0_leek 2 = .ok (.lconst 0, 1) := dk_9 (dk_at dksX0_leek_0 2 rfl rfl)
theorem dX0_leek_3 : decode cX0_leek 3 = .ok (.ldc2_w 157, 3) := dk_20 0 157 (dk_at dksX0_leek_0 3 rfl rfl)
theorem dX0_leek_6 : decode cX0_leek 6 = .ok (.invokestatic 128, 3) := dk_184 0 128 (dk_at dksX0_leek_0 6 rfl rfl)
theorem dX0_leek_9 : decode cX0_leek 9 = .ok (.ifCond .ne 9, 3) := dk_154 0 9 (dk_at dksX0_leek_0 9 rfl rfl)
theorem dX0_leek_12 : decode cX0_leek 12 = .ok (.aload_n 0, 1) := dk_42 (dk_at dksX0_leek_0 12 rfl rfl)
theorem dX0_leek_13 : decode cX0_leek 13 = .ok (.iconst (-1), 1) := dk_2 (dk_at dksX0_leek_0 13 rfl rfl)
theorem dX0_leek_14 : decode cX0_leek 14 = .ok (.invokevirtual 112, 3) := dk_182 0 112 (dk_at dksX0_leek_0 14 rfl rfl)
theorem dX0_leek_17 : decode cX0_leek 17 = .ok (.ireturn, 1) := dk_172 (dk_at dksX0_leek_0 17 rfl rfl)
theorem dX0_leek_18 : decode cX0_leek 18 = .ok (.aload_n 0, 1) := dk_42 (dk_at dksX0_leek_0 18 rfl rfl)
theorem dX0_leek_19 : decode cX0_leek 19 = .ok (.invokevirtual 132, 3) := dk_182 0 132 (dk_at dksX0_leek_0 19 rfl rfl)
theorem dX0_leek_22 : decode cX0_leek 22 = .ok (.istore_n 2, 1) := dk_61 (dk_at dksX0_leek_0 22 rfl rfl)
theorem dX0_leek_23 : decode cX0_leek 23 = .ok (.iload_n 2, 1) := dk_28 (dk_at dksX0_leek_0 23 rfl rfl)
theorem dX0_leek_24 : decode cX0_leek 24 = .ok (.iconst 4, 1) := dk_7 (dk_at dksX0_leek_1 0 rfl rfl)
theorem dX0_leek_25 : decode cX0_leek 25 = .ok (.if_icmp .ne 10, 3) := dk_160 0 10 (dk_at dksX0_leek_1 1 rfl rfl)
theorem dX0_leek_28 : decode cX0_leek 28 = .ok (.aload_n 0, 1) := dk_42 (dk_at dksX0_leek_1 4 rfl rfl)
theorem dX0_leek_29 : decode cX0_leek 29 = .ok (.bipush (-5), 2) := dk_16 251 (dk_at dksX0_leek_1 5 rfl rfl)
theorem dX0_leek_31 : decode cX0_leek 31 = .ok (.invokevirtual 112, 3) := dk_182 0 112 (dk_at dksX0_leek_1 7 rfl rfl)
theorem dX0_leek_34 : decode cX0_leek 34 = .ok (.ireturn, 1) := dk_172 (dk_at dksX0_leek_1 10 rfl rfl)
theorem dX0_leek_35 : decode cX0_leek 35 = .ok (.aload_n 0, 1) := dk_42 (dk_at dksX0_leek_1 11 rfl rfl)
theorem dX0_leek_36 : decode cX0_leek 36 = .ok (.getfield 10, 3) := dk_180 0 10 (dk_at dksX0_leek_1 12 rfl rfl)
theorem dX0_leek_39 : decode cX0_leek 39 = .ok (.getfield 185, 3) := dk_180 0 185 (dk_at dksX0_leek_1 15 rfl rfl)
theorem dX0_leek_42 : decode cX0_leek 42 = .ok (.iload_n 2, 1) := dk_28 (dk_at dksX0_leek_1 18 rfl rfl)
theorem dX0_leek_43 : decode cX0_leek 43 = .ok (.iload_n 1, 1) := dk_27 (dk_at dksX0_leek_1 19 rfl rfl)
theorem dX0_leek_44 : decode cX0_leek 44 = .ok (.iastore, 1) := dk_79 (dk_at dksX0_leek_1 20 rfl rfl)
theorem dX0_leek_45 : decode cX0_leek 45 = .ok (.aload_n 0, 1) := dk_42 (dk_at dksX0_leek_1 21 rfl rfl)
theorem dX0_leek_46 : decode cX0_leek 46 = .ok (.invokevirtual 135, 3) := dk_182 0 135 (dk_at dksX0_leek_2 0 rfl rfl)
theorem dX0_leek_49 : decode cX0_leek 49 = .ok (.getfield 188, 3) := dk_180 0 188 (dk_at dksX0_leek_2 3 rfl rfl)
theorem dX0_leek_52 : decode cX0_leek 52 = .ok (.iload_n 2, 1) := dk_28 (dk_at dksX0_leek_2 6 rfl rfl)
theorem dX0_leek_53 : decode cX0_leek 53 = .ok (.iconst 0, 1) := dk_3 (dk_at dksX0_leek_2 7 rfl rfl)
theorem dX0_leek_54 : decode cX0_leek 54 = .ok (.iastore, 1) := dk_79 (dk_at dksX0_leek_2 8 rfl rfl)
theorem dX0_leek_55 : decode cX0_leek 55 = .ok (.aload_n 0, 1) := dk_42 (dk_at dksX0_leek_2 9 rfl rfl)
theorem dX0_leek_56 : decode cX0_leek 56 = .ok (.getfield 10, 3) := dk_180 0 10 (dk_at dksX0_leek_2 10 rfl rfl)
theorem dX0_leek_59 : decode cX0_leek 59 = .ok (.dup, 1) := dk_89 (dk_at dksX0_leek_2 13 rfl rfl)
theorem dX0_leek_60 : decode cX0_leek 60 = .ok (.getfield 122, 3) := dk_180 0 122 (dk_at dksX0_leek_2 14 rfl rfl)
theorem dX0_leek_63 : decode cX0_leek 63 = .ok (.iconst 1, 1) := dk_4 (dk_at dksX0_leek_2 17 rfl rfl)
theorem dX0_leek_64 : decode cX0_leek 64 = .ok (.iadd, 1) := dk_96 (dk_at dksX0_leek_2 18 rfl rfl)
theorem dX0_leek_65 : decode cX0_leek 65 = .ok (.putfield 122, 3) := dk_181 0 122 (dk_at dksX0_leek_2 19 rfl rfl)
theorem dX0_leek_68 : decode cX0_leek 68 = .ok (.aload_n 0, 1) := dk_42 (dk_at dksX0_leek_2 22 rfl rfl)
theorem dX0_leek_69 : decode cX0_leek 69 = .ok (.iload_n 2, 1) := dk_28 (dk_at dksX0_leek_2 23 rfl rfl)
theorem dX0_leek_70 : decode cX0_leek 70 = .ok (.invokevirtual 169, 3) := dk_182 0 169 (dk_at dksX0_leek_3 0 rfl rfl)
theorem dX0_leek_73 : decode cX0_leek 73 = .ok (.ireturn, 1) := dk_172 (dk_at dksX0_leek_3 3 rfl rfl)
abbrev cX0_at : ByteArray := prog_1_method_24_code
def yX0_at : MethodName := ⟨RX0, "at", "(II)I"⟩
def dkwX0_at_4 : List UInt8 := [182, 0, 197, 167, 0, 4, 2, 172]
abbrev dktX0_at_4 : List UInt8 := dkwX0_at_4 ++ []
def dkwX0_at_3 : List UInt8 := [182, 0, 194, 172, 28, 5, 164, 0, 24, 42, 28, 6, 100, 182, 0, 172, 153, 0, 14, 42, 27, 28, 6, 100]
abbrev dktX0_at_3 : List UInt8 := dkwX0_at_3 ++ dktX0_at_4
def dkwX0_at_2 : List UInt8 := [42, 180, 0, 10, 180, 0, 185, 27, 46, 172, 42, 182, 0, 135, 180, 0, 188, 27, 46, 172, 42, 27]
abbrev dktX0_at_2 : List UInt8 := dkwX0_at_2 ++ dktX0_at_3
def dkwX0_at_1 : List UInt8 := [170, 0, 0, 0, 51, 0, 0, 0, 0, 0, 0, 0, 2, 0, 0, 0, 25, 0, 0, 0, 35, 0, 0, 0, 45]
abbrev dktX0_at_1 : List UInt8 := dkwX0_at_1 ++ dktX0_at_2
def dkwX0_at_0 : List UInt8 := [42, 27, 182, 0, 191, 154, 0, 5, 2, 172, 28]
abbrev dktX0_at_0 : List UInt8 := dkwX0_at_0 ++ dktX0_at_1
theorem dksX0_at_0 : cX0_at.data.toList.drop 0 = dktX0_at_0 := by decide +kernel
theorem dksX0_at_1 : cX0_at.data.toList.drop 11 = dktX0_at_1 := dk_seg dksX0_at_0 11 rfl rfl
theorem dksX0_at_2 : cX0_at.data.toList.drop 36 = dktX0_at_2 := dk_seg dksX0_at_1 25 rfl rfl
theorem dksX0_at_3 : cX0_at.data.toList.drop 58 = dktX0_at_3 := dk_seg dksX0_at_2 22 rfl rfl
theorem dksX0_at_4 : cX0_at.data.toList.drop 82 = dktX0_at_4 := dk_seg dksX0_at_3 24 rfl rfl
theorem dX0_at_0 : decode cX0_at 0 = .ok (.aload_n 0, 1) := dk_42 (dk_at dksX0_at_0 0 rfl rfl)
theorem dX0_at_1 : decode cX0_at 1 = .ok (.iload_n 1, 1) := dk_27 (dk_at dksX0_at_0 1 rfl rfl)
theorem dX0_at_2 : decode cX0_at 2 = .ok (.invokevirtual 191, 3) := dk_182 0 191 (dk_at dksX0_at_0 2 rfl rfl)
theorem dX0_at_5 : decode cX0_at 5 = .ok (.ifCond .ne 5, 3) := dk_154 0 5 (dk_at dksX0_at_0 5 rfl rfl)
theorem dX0_at_8 : decode cX0_at 8 = .ok (.iconst (-1), 1) := dk_2 (dk_at dksX0_at_0 8 rfl rfl)
theorem dX0_at_9 : decode cX0_at 9 = .ok (.ireturn, 1) := dk_172 (dk_at dksX0_at_0 9 rfl rfl)
theorem dX0_at_10 : decode cX0_at 10 = .ok (.iload_n 2, 1) := dk_28 (dk_at dksX0_at_0 10 rfl rfl)
theorem dX0_at_11 : decode cX0_at 11 = .ok (.tableswitch 51 0 2 #[25, 35, 45], 25) := by decide +kernel
theorem dX0_at_36 : decode cX0_at 36 = .ok (.aload_n 0, 1) := dk_42 (dk_at dksX0_at_2 0 rfl rfl)
theorem dX0_at_37 : decode cX0_at 37 = .ok (.getfield 10, 3) := dk_180 0 10 (dk_at dksX0_at_2 1 rfl rfl)
theorem dX0_at_40 : decode cX0_at 40 = .ok (.getfield 185, 3) := dk_180 0 185 (dk_at dksX0_at_2 4 rfl rfl)
theorem dX0_at_43 : decode cX0_at 43 = .ok (.iload_n 1, 1) := dk_27 (dk_at dksX0_at_2 7 rfl rfl)
theorem dX0_at_44 : decode cX0_at 44 = .ok (.iaload, 1) := dk_46 (dk_at dksX0_at_2 8 rfl rfl)
theorem dX0_at_45 : decode cX0_at 45 = .ok (.ireturn, 1) := dk_172 (dk_at dksX0_at_2 9 rfl rfl)
theorem dX0_at_46 : decode cX0_at 46 = .ok (.aload_n 0, 1) := dk_42 (dk_at dksX0_at_2 10 rfl rfl)
theorem dX0_at_47 : decode cX0_at 47 = .ok (.invokevirtual 135, 3) := dk_182 0 135 (dk_at dksX0_at_2 11 rfl rfl)
theorem dX0_at_50 : decode cX0_at 50 = .ok (.getfield 188, 3) := dk_180 0 188 (dk_at dksX0_at_2 14 rfl rfl)
theorem dX0_at_53 : decode cX0_at 53 = .ok (.iload_n 1, 1) := dk_27 (dk_at dksX0_at_2 17 rfl rfl)
theorem dX0_at_54 : decode cX0_at 54 = .ok (.iaload, 1) := dk_46 (dk_at dksX0_at_2 18 rfl rfl)
theorem dX0_at_55 : decode cX0_at 55 = .ok (.ireturn, 1) := dk_172 (dk_at dksX0_at_2 19 rfl rfl)
theorem dX0_at_56 : decode cX0_at 56 = .ok (.aload_n 0, 1) := dk_42 (dk_at dksX0_at_2 20 rfl rfl)
theorem dX0_at_57 : decode cX0_at 57 = .ok (.iload_n 1, 1) := dk_27 (dk_at dksX0_at_2 21 rfl rfl)
theorem dX0_at_58 : decode cX0_at 58 = .ok (.invokevirtual 194, 3) := dk_182 0 194 (dk_at dksX0_at_3 0 rfl rfl)
theorem dX0_at_61 : decode cX0_at 61 = .ok (.ireturn, 1) := dk_172 (dk_at dksX0_at_3 3 rfl rfl)
theorem dX0_at_62 : decode cX0_at 62 = .ok (.iload_n 2, 1) := dk_28 (dk_at dksX0_at_3 4 rfl rfl)
theorem dX0_at_63 : decode cX0_at 63 = .ok (.iconst 2, 1) := dk_5 (dk_at dksX0_at_3 5 rfl rfl)
theorem dX0_at_64 : decode cX0_at 64 = .ok (.if_icmp .le 24, 3) := dk_164 0 24 (dk_at dksX0_at_3 6 rfl rfl)
theorem dX0_at_67 : decode cX0_at 67 = .ok (.aload_n 0, 1) := dk_42 (dk_at dksX0_at_3 9 rfl rfl)
theorem dX0_at_68 : decode cX0_at 68 = .ok (.iload_n 2, 1) := dk_28 (dk_at dksX0_at_3 10 rfl rfl)
theorem dX0_at_69 : decode cX0_at 69 = .ok (.iconst 3, 1) := dk_6 (dk_at dksX0_at_3 11 rfl rfl)
theorem dX0_at_70 : decode cX0_at 70 = .ok (.isub, 1) := dk_100 (dk_at dksX0_at_3 12 rfl rfl)
theorem dX0_at_71 : decode cX0_at 71 = .ok (.invokevirtual 172, 3) := dk_182 0 172 (dk_at dksX0_at_3 13 rfl rfl)
theorem dX0_at_74 : decode cX0_at 74 = .ok (.ifCond .eq 14, 3) := dk_153 0 14 (dk_at dksX0_at_3 16 rfl rfl)
theorem dX0_at_77 : decode cX0_at 77 = .ok (.aload_n 0, 1) := dk_42 (dk_at dksX0_at_3 19 rfl rfl)
theorem dX0_at_78 : decode cX0_at 78 = .ok (.iload_n 1, 1) := dk_27 (dk_at dksX0_at_3 20 rfl rfl)
theorem dX0_at_79 : decode cX0_at 79 = .ok (.iload_n 2, 1) := dk_28 (dk_at dksX0_at_3 21 rfl rfl)
theorem dX0_at_80 : decode cX0_at 80 = .ok (.iconst 3, 1) := dk_6 (dk_at dksX0_at_3 22 rfl rfl)
theorem dX0_at_81 : decode cX0_at 81 = .ok (.isub, 1) := dk_100 (dk_at dksX0_at_3 23 rfl rfl)
theorem dX0_at_82 : decode cX0_at 82 = .ok (.invokevirtual 197, 3) := dk_182 0 197 (dk_at dksX0_at_4 0 rfl rfl)
theorem dX0_at_85 : decode cX0_at 85 = .ok (.goto 4, 3) := dk_167 0 4 (dk_at dksX0_at_4 3 rfl rfl)
theorem dX0_at_88 : decode cX0_at 88 = .ok (.iconst (-1), 1) := dk_2 (dk_at dksX0_at_4 6 rfl rfl)
theorem dX0_at_89 : decode cX0_at 89 = .ok (.ireturn, 1) := dk_172 (dk_at dksX0_at_4 7 rfl rfl)
abbrev cX0_wilts : ByteArray := prog_1_method_38_code
def yX0_wilts : MethodName := ⟨RX0, "wilts", "(I)I"⟩
def dkwX0_wilts_0 : List UInt8 := [42, 27, 2, 182, 1, 26, 42, 182, 1, 30, 4, 42, 180, 0, 43, 3, 16, 9, 182, 1, 33, 172]
abbrev dktX0_wilts_0 : List UInt8 := dkwX0_wilts_0 ++ []
theorem dksX0_wilts_0 : cX0_wilts.data.toList.drop 0 = dktX0_wilts_0 := by decide +kernel
theorem dX0_wilts_0 : decode cX0_wilts 0 = .ok (.aload_n 0, 1) := dk_42 (dk_at dksX0_wilts_0 0 rfl rfl)
theorem dX0_wilts_1 : decode cX0_wilts 1 = .ok (.iload_n 1, 1) := dk_27 (dk_at dksX0_wilts_0 1 rfl rfl)
theorem dX0_wilts_2 : decode cX0_wilts 2 = .ok (.iconst (-1), 1) := dk_2 (dk_at dksX0_wilts_0 2 rfl rfl)
theorem dX0_wilts_3 : decode cX0_wilts 3 = .ok (.invokevirtual 282, 3) := dk_182 1 26 (dk_at dksX0_wilts_0 3 rfl rfl)
theorem dX0_wilts_6 : decode cX0_wilts 6 = .ok (.aload_n 0, 1) := dk_42 (dk_at dksX0_wilts_0 6 rfl rfl)
theorem dX0_wilts_7 : decode cX0_wilts 7 = .ok (.invokevirtual 286, 3) := dk_182 1 30 (dk_at dksX0_wilts_0 7 rfl rfl)
theorem dX0_wilts_10 : decode cX0_wilts 10 = .ok (.iconst 1, 1) := dk_4 (dk_at dksX0_wilts_0 10 rfl rfl)
theorem dX0_wilts_11 : decode cX0_wilts 11 = .ok (.aload_n 0, 1) := dk_42 (dk_at dksX0_wilts_0 11 rfl rfl)
theorem dX0_wilts_12 : decode cX0_wilts 12 = .ok (.getfield 43, 3) := dk_180 0 43 (dk_at dksX0_wilts_0 12 rfl rfl)
theorem dX0_wilts_15 : decode cX0_wilts 15 = .ok (.iconst 0, 1) := dk_3 (dk_at dksX0_wilts_0 15 rfl rfl)
theorem dX0_wilts_16 : decode cX0_wilts 16 = .ok (.bipush 9, 2) := dk_16 9 (dk_at dksX0_wilts_0 16 rfl rfl)
theorem dX0_wilts_18 : decode cX0_wilts 18 = .ok (.invokevirtual 289, 3) := dk_182 1 33 (dk_at dksX0_wilts_0 18 rfl rfl)
theorem dX0_wilts_21 : decode cX0_wilts 21 = .ok (.ireturn, 1) := dk_172 (dk_at dksX0_wilts_0 21 rfl rfl)
abbrev cX0_grows : ByteArray := prog_1_method_37_code
def yX0_grows : MethodName := ⟨RX0, "grows", "(II)I"⟩
def dkwX0_grows_1 : List UInt8 := [16, 99, 182, 1, 33, 172]
abbrev dktX0_grows_1 : List UInt8 := dkwX0_grows_1 ++ []
def dkwX0_grows_0 : List UInt8 := [42, 27, 28, 182, 1, 26, 42, 182, 1, 30, 3, 42, 180, 0, 43, 42, 180, 0, 10, 180, 0, 159, 28, 46]
abbrev dktX0_grows_0 : List UInt8 := dkwX0_grows_0 ++ dktX0_grows_1
theorem dksX0_grows_0 : cX0_grows.data.toList.drop 0 = dktX0_grows_0 := by decide +kernel
theorem dksX0_grows_1 : cX0_grows.data.toList.drop 24 = dktX0_grows_1 := dk_seg dksX0_grows_0 24 rfl rfl
theorem dX0_grows_0 : decode cX0_grows 0 = .ok (.aload_n 0, 1) := dk_42 (dk_at dksX0_grows_0 0 rfl rfl)
theorem dX0_grows_1 : decode cX0_grows 1 = .ok (.iload_n 1, 1) := dk_27 (dk_at dksX0_grows_0 1 rfl rfl)
theorem dX0_grows_2 : decode cX0_grows 2 = .ok (.iload_n 2, 1) := dk_28 (dk_at dksX0_grows_0 2 rfl rfl)
theorem dX0_grows_3 : decode cX0_grows 3 = .ok (.invokevirtual 282, 3) := dk_182 1 26 (dk_at dksX0_grows_0 3 rfl rfl)
theorem dX0_grows_6 : decode cX0_grows 6 = .ok (.aload_n 0, 1) := dk_42 (dk_at dksX0_grows_0 6 rfl rfl)
theorem dX0_grows_7 : decode cX0_grows 7 = .ok (.invokevirtual 286, 3) := dk_182 1 30 (dk_at dksX0_grows_0 7 rfl rfl)
theorem dX0_grows_10 : decode cX0_grows 10 = .ok (.iconst 0, 1) := dk_3 (dk_at dksX0_grows_0 10 rfl rfl)
theorem dX0_grows_11 : decode cX0_grows 11 = .ok (.aload_n 0, 1) := dk_42 (dk_at dksX0_grows_0 11 rfl rfl)
theorem dX0_grows_12 : decode cX0_grows 12 = .ok (.getfield 43, 3) := dk_180 0 43 (dk_at dksX0_grows_0 12 rfl rfl)
theorem dX0_grows_15 : decode cX0_grows 15 = .ok (.aload_n 0, 1) := dk_42 (dk_at dksX0_grows_0 15 rfl rfl)
theorem dX0_grows_16 : decode cX0_grows 16 = .ok (.getfield 10, 3) := dk_180 0 10 (dk_at dksX0_grows_0 16 rfl rfl)
theorem dX0_grows_19 : decode cX0_grows 19 = .ok (.getfield 159, 3) := dk_180 0 159 (dk_at dksX0_grows_0 19 rfl rfl)
theorem dX0_grows_22 : decode cX0_grows 22 = .ok (.iload_n 2, 1) := dk_28 (dk_at dksX0_grows_0 22 rfl rfl)
theorem dX0_grows_23 : decode cX0_grows 23 = .ok (.iaload, 1) := dk_46 (dk_at dksX0_grows_0 23 rfl rfl)
theorem dX0_grows_24 : decode cX0_grows 24 = .ok (.bipush 99, 2) := dk_16 99 (dk_at dksX0_grows_1 0 rfl rfl)
theorem dX0_grows_26 : decode cX0_grows 26 = .ok (.invokevirtual 289, 3) := dk_182 1 33 (dk_at dksX0_grows_1 2 rfl rfl)
theorem dX0_grows_29 : decode cX0_grows 29 = .ok (.ireturn, 1) := dk_172 (dk_at dksX0_grows_1 5 rfl rfl)
abbrev cX0_terms : ByteArray := prog_1_method_27_code
def yX0_terms : MethodName := ⟨RX0, "terms", "(II)I"⟩
def dkwX0_terms_2 : List UInt8 := [180, 0, 23, 3, 181, 0, 109, 42, 29, 182, 0, 216, 172]
abbrev dktX0_terms_2 : List UInt8 := dkwX0_terms_2 ++ []
def dkwX0_terms_1 : List UInt8 := [42, 182, 0, 135, 28, 181, 0, 204, 167, 0, 13, 42, 180, 0, 10, 180, 0, 207, 27, 28, 79, 42]
abbrev dktX0_terms_1 : List UInt8 := dkwX0_terms_1 ++ dktX0_terms_2
def dkwX0_terms_0 : List UInt8 := [27, 28, 184, 0, 210, 154, 0, 9, 42, 2, 182, 0, 112, 172, 42, 27, 182, 0, 213, 62, 27, 154, 0, 14]
abbrev dktX0_terms_0 : List UInt8 := dkwX0_terms_0 ++ dktX0_terms_1
theorem dksX0_terms_0 : cX0_terms.data.toList.drop 0 = dktX0_terms_0 := by decide +kernel
theorem dksX0_terms_1 : cX0_terms.data.toList.drop 24 = dktX0_terms_1 := dk_seg dksX0_terms_0 24 rfl rfl
theorem dksX0_terms_2 : cX0_terms.data.toList.drop 46 = dktX0_terms_2 := dk_seg dksX0_terms_1 22 rfl rfl
theorem dX0_terms_0 : decode cX0_terms 0 = .ok (.iload_n 1, 1) := dk_27 (dk_at dksX0_terms_0 0 rfl rfl)
theorem dX0_terms_1 : decode cX0_terms 1 = .ok (.iload_n 2, 1) := dk_28 (dk_at dksX0_terms_0 1 rfl rfl)
theorem dX0_terms_2 : decode cX0_terms 2 = .ok (.invokestatic 210, 3) := dk_184 0 210 (dk_at dksX0_terms_0 2 rfl rfl)
theorem dX0_terms_5 : decode cX0_terms 5 = .ok (.ifCond .ne 9, 3) := dk_154 0 9 (dk_at dksX0_terms_0 5 rfl rfl)
theorem dX0_terms_8 : decode cX0_terms 8 = .ok (.aload_n 0, 1) := dk_42 (dk_at dksX0_terms_0 8 rfl rfl)
theorem dX0_terms_9 : decode cX0_terms 9 = .ok (.iconst (-1), 1) := dk_2 (dk_at dksX0_terms_0 9 rfl rfl)
theorem dX0_terms_10 : decode cX0_terms 10 = .ok (.invokevirtual 112, 3) := dk_182 0 112 (dk_at dksX0_terms_0 10 rfl rfl)
theorem dX0_terms_13 : decode cX0_terms 13 = .ok (.ireturn, 1) := dk_172 (dk_at dksX0_terms_0 13 rfl rfl)
theorem dX0_terms_14 : decode cX0_terms 14 = .ok (.aload_n 0, 1) := dk_42 (dk_at dksX0_terms_0 14 rfl rfl)
theorem dX0_terms_15 : decode cX0_terms 15 = .ok (.iload_n 1, 1) := dk_27 (dk_at dksX0_terms_0 15 rfl rfl)
theorem dX0_terms_16 : decode cX0_terms 16 = .ok (.invokevirtual 213, 3) := dk_182 0 213 (dk_at dksX0_terms_0 16 rfl rfl)
theorem dX0_terms_19 : decode cX0_terms 19 = .ok (.istore_n 3, 1) := dk_62 (dk_at dksX0_terms_0 19 rfl rfl)
theorem dX0_terms_20 : decode cX0_terms 20 = .ok (.iload_n 1, 1) := dk_27 (dk_at dksX0_terms_0 20 rfl rfl)
theorem dX0_terms_21 : decode cX0_terms 21 = .ok (.ifCond .ne 14, 3) := dk_154 0 14 (dk_at dksX0_terms_0 21 rfl rfl)
theorem dX0_terms_24 : decode cX0_terms 24 = .ok (.aload_n 0, 1) := dk_42 (dk_at dksX0_terms_1 0 rfl rfl)
theorem dX0_terms_25 : decode cX0_terms 25 = .ok (.invokevirtual 135, 3) := dk_182 0 135 (dk_at dksX0_terms_1 1 rfl rfl)
theorem dX0_terms_28 : decode cX0_terms 28 = .ok (.iload_n 2, 1) := dk_28 (dk_at dksX0_terms_1 4 rfl rfl)
theorem dX0_terms_29 : decode cX0_terms 29 = .ok (.putfield 204, 3) := dk_181 0 204 (dk_at dksX0_terms_1 5 rfl rfl)
theorem dX0_terms_32 : decode cX0_terms 32 = .ok (.goto 13, 3) := dk_167 0 13 (dk_at dksX0_terms_1 8 rfl rfl)
theorem dX0_terms_35 : decode cX0_terms 35 = .ok (.aload_n 0, 1) := dk_42 (dk_at dksX0_terms_1 11 rfl rfl)
theorem dX0_terms_36 : decode cX0_terms 36 = .ok (.getfield 10, 3) := dk_180 0 10 (dk_at dksX0_terms_1 12 rfl rfl)
theorem dX0_terms_39 : decode cX0_terms 39 = .ok (.getfield 207, 3) := dk_180 0 207 (dk_at dksX0_terms_1 15 rfl rfl)
theorem dX0_terms_42 : decode cX0_terms 42 = .ok (.iload_n 1, 1) := dk_27 (dk_at dksX0_terms_1 18 rfl rfl)
theorem dX0_terms_43 : decode cX0_terms 43 = .ok (.iload_n 2, 1) := dk_28 (dk_at dksX0_terms_1 19 rfl rfl)
theorem dX0_terms_44 : decode cX0_terms 44 = .ok (.iastore, 1) := dk_79 (dk_at dksX0_terms_1 20 rfl rfl)
theorem dX0_terms_45 : decode cX0_terms 45 = .ok (.aload_n 0, 1) := dk_42 (dk_at dksX0_terms_1 21 rfl rfl)
theorem dX0_terms_46 : decode cX0_terms 46 = .ok (.getfield 23, 3) := dk_180 0 23 (dk_at dksX0_terms_2 0 rfl rfl)
theorem dX0_terms_49 : decode cX0_terms 49 = .ok (.iconst 0, 1) := dk_3 (dk_at dksX0_terms_2 3 rfl rfl)
theorem dX0_terms_50 : decode cX0_terms 50 = .ok (.putfield 109, 3) := dk_181 0 109 (dk_at dksX0_terms_2 4 rfl rfl)
theorem dX0_terms_53 : decode cX0_terms 53 = .ok (.aload_n 0, 1) := dk_42 (dk_at dksX0_terms_2 7 rfl rfl)
theorem dX0_terms_54 : decode cX0_terms 54 = .ok (.iload_n 3, 1) := dk_29 (dk_at dksX0_terms_2 8 rfl rfl)
theorem dX0_terms_55 : decode cX0_terms 55 = .ok (.invokevirtual 216, 3) := dk_182 0 216 (dk_at dksX0_terms_2 9 rfl rfl)
theorem dX0_terms_58 : decode cX0_terms 58 = .ok (.ireturn, 1) := dk_172 (dk_at dksX0_terms_2 12 rfl rfl)
abbrev cX0_isTerm : ByteArray := prog_1_method_25_code
def yX0_isTerm : MethodName := ⟨RX0, "isTerm", "(II)Z"⟩
def dkwX0_isTerm_3 : List UInt8 := [20, 0, 155, 184, 0, 128, 172, 3, 172]
abbrev dktX0_isTerm_3 : List UInt8 := dkwX0_isTerm_3 ++ []
def dkwX0_isTerm_2 : List UInt8 := [27, 133, 9, 20, 0, 200, 184, 0, 128, 172, 27, 133, 9, 20, 0, 202, 184, 0, 128, 172, 27, 133, 9]
abbrev dktX0_isTerm_2 : List UInt8 := dkwX0_isTerm_2 ++ dktX0_isTerm_3
def dkwX0_isTerm_1 : List UInt8 := [170, 0, 0, 0, 0, 0, 57, 0, 0, 0, 0, 0, 0, 0, 2, 0, 0, 0, 27, 0, 0, 0, 37, 0, 0, 0, 47]
abbrev dktX0_isTerm_1 : List UInt8 := dkwX0_isTerm_1 ++ dktX0_isTerm_2
def dkwX0_isTerm_0 : List UInt8 := [26]
abbrev dktX0_isTerm_0 : List UInt8 := dkwX0_isTerm_0 ++ dktX0_isTerm_1
theorem dksX0_isTerm_0 : cX0_isTerm.data.toList.drop 0 = dktX0_isTerm_0 := by decide +kernel
theorem dksX0_isTerm_1 : cX0_isTerm.data.toList.drop 1 = dktX0_isTerm_1 := dk_seg dksX0_isTerm_0 1 rfl rfl
theorem dksX0_isTerm_2 : cX0_isTerm.data.toList.drop 28 = dktX0_isTerm_2 := dk_seg dksX0_isTerm_1 27 rfl rfl
theorem dksX0_isTerm_3 : cX0_isTerm.data.toList.drop 51 = dktX0_isTerm_3 := dk_seg dksX0_isTerm_2 23 rfl rfl
theorem dX0_isTerm_0 : decode cX0_isTerm 0 = .ok (.iload_n 0, 1) := dk_26 (dk_at dksX0_isTerm_0 0 rfl rfl)
theorem dX0_isTerm_1 : decode cX0_isTerm 1 = .ok (.tableswitch 57 0 2 #[27, 37, 47], 27) := by decide +kernel
theorem dX0_isTerm_28 : decode cX0_isTerm 28 = .ok (.iload_n 1, 1) := dk_27 (dk_at dksX0_isTerm_2 0 rfl rfl)
theorem dX0_isTerm_29 : decode cX0_isTerm 29 = .ok (.i2l, 1) := dk_133 (dk_at dksX0_isTerm_2 1 rfl rfl)
theorem dX0_isTerm_30 : decode cX0_isTerm 30 = .ok (.lconst 0, 1) := dk_9 (dk_at dksX0_isTerm_2 2 rfl rfl)
theorem dX0_isTerm_31 : decode cX0_isTerm 31 = .ok (.ldc2_w 200, 3) := dk_20 0 200 (dk_at dksX0_isTerm_2 3 rfl rfl)
theorem dX0_isTerm_34 : decode cX0_isTerm 34 = .ok (.invokestatic 128, 3) := dk_184 0 128 (dk_at dksX0_isTerm_2 6 rfl rfl)
theorem dX0_isTerm_37 : decode cX0_isTerm 37 = .ok (.ireturn, 1) := dk_172 (dk_at dksX0_isTerm_2 9 rfl rfl)
theorem dX0_isTerm_38 : decode cX0_isTerm 38 = .ok (.iload_n 1, 1) := dk_27 (dk_at dksX0_isTerm_2 10 rfl rfl)
theorem dX0_isTerm_39 : decode cX0_isTerm 39 = .ok (.i2l, 1) := dk_133 (dk_at dksX0_isTerm_2 11 rfl rfl)
theorem dX0_isTerm_40 : decode cX0_isTerm 40 = .ok (.lconst 0, 1) := dk_9 (dk_at dksX0_isTerm_2 12 rfl rfl)
theorem dX0_isTerm_41 : decode cX0_isTerm 41 = .ok (.ldc2_w 202, 3) := dk_20 0 202 (dk_at dksX0_isTerm_2 13 rfl rfl)
theorem dX0_isTerm_44 : decode cX0_isTerm 44 = .ok (.invokestatic 128, 3) := dk_184 0 128 (dk_at dksX0_isTerm_2 16 rfl rfl)
theorem dX0_isTerm_47 : decode cX0_isTerm 47 = .ok (.ireturn, 1) := dk_172 (dk_at dksX0_isTerm_2 19 rfl rfl)
theorem dX0_isTerm_48 : decode cX0_isTerm 48 = .ok (.iload_n 1, 1) := dk_27 (dk_at dksX0_isTerm_2 20 rfl rfl)
theorem dX0_isTerm_49 : decode cX0_isTerm 49 = .ok (.i2l, 1) := dk_133 (dk_at dksX0_isTerm_2 21 rfl rfl)
theorem dX0_isTerm_50 : decode cX0_isTerm 50 = .ok (.lconst 0, 1) := dk_9 (dk_at dksX0_isTerm_2 22 rfl rfl)
theorem dX0_isTerm_51 : decode cX0_isTerm 51 = .ok (.ldc2_w 155, 3) := dk_20 0 155 (dk_at dksX0_isTerm_3 0 rfl rfl)
theorem dX0_isTerm_54 : decode cX0_isTerm 54 = .ok (.invokestatic 128, 3) := dk_184 0 128 (dk_at dksX0_isTerm_3 3 rfl rfl)
theorem dX0_isTerm_57 : decode cX0_isTerm 57 = .ok (.ireturn, 1) := dk_172 (dk_at dksX0_isTerm_3 6 rfl rfl)
theorem dX0_isTerm_58 : decode cX0_isTerm 58 = .ok (.iconst 0, 1) := dk_3 (dk_at dksX0_isTerm_3 7 rfl rfl)
theorem dX0_isTerm_59 : decode cX0_isTerm 59 = .ok (.ireturn, 1) := dk_172 (dk_at dksX0_isTerm_3 8 rfl rfl)
abbrev cX0_term : ByteArray := prog_1_method_26_code
def yX0_term : MethodName := ⟨RX0, "term", "(I)I"⟩
def dkwX0_term_0 : List UInt8 := [27, 154, 0, 13, 42, 182, 0, 135, 180, 0, 204, 167, 0, 12, 42, 180, 0, 10, 180, 0, 207, 27, 46, 172]
abbrev dktX0_term_0 : List UInt8 := dkwX0_term_0 ++ []
theorem dksX0_term_0 : cX0_term.data.toList.drop 0 = dktX0_term_0 := by decide +kernel
theorem dX0_term_0 : decode cX0_term 0 = .ok (.iload_n 1, 1) := dk_27 (dk_at dksX0_term_0 0 rfl rfl)
theorem dX0_term_1 : decode cX0_term 1 = .ok (.ifCond .ne 13, 3) := dk_154 0 13 (dk_at dksX0_term_0 1 rfl rfl)
theorem dX0_term_4 : decode cX0_term 4 = .ok (.aload_n 0, 1) := dk_42 (dk_at dksX0_term_0 4 rfl rfl)
theorem dX0_term_5 : decode cX0_term 5 = .ok (.invokevirtual 135, 3) := dk_182 0 135 (dk_at dksX0_term_0 5 rfl rfl)
theorem dX0_term_8 : decode cX0_term 8 = .ok (.getfield 204, 3) := dk_180 0 204 (dk_at dksX0_term_0 8 rfl rfl)
theorem dX0_term_11 : decode cX0_term 11 = .ok (.goto 12, 3) := dk_167 0 12 (dk_at dksX0_term_0 11 rfl rfl)
theorem dX0_term_14 : decode cX0_term 14 = .ok (.aload_n 0, 1) := dk_42 (dk_at dksX0_term_0 14 rfl rfl)
theorem dX0_term_15 : decode cX0_term 15 = .ok (.getfield 10, 3) := dk_180 0 10 (dk_at dksX0_term_0 15 rfl rfl)
theorem dX0_term_18 : decode cX0_term 18 = .ok (.getfield 207, 3) := dk_180 0 207 (dk_at dksX0_term_0 18 rfl rfl)
theorem dX0_term_21 : decode cX0_term 21 = .ok (.iload_n 1, 1) := dk_27 (dk_at dksX0_term_0 21 rfl rfl)
theorem dX0_term_22 : decode cX0_term 22 = .ok (.iaload, 1) := dk_46 (dk_at dksX0_term_0 22 rfl rfl)
theorem dX0_term_23 : decode cX0_term 23 = .ok (.ireturn, 1) := dk_172 (dk_at dksX0_term_0 23 rfl rfl)
abbrev cX0_had : ByteArray := prog_1_method_6_code
def yX0_had : MethodName := ⟨RX0, "had", "(I)I"⟩
def dkwX0_had_0 : List UInt8 := [42, 3, 181, 0, 106, 27, 172]
abbrev dktX0_had_0 : List UInt8 := dkwX0_had_0 ++ []
theorem dksX0_had_0 : cX0_had.data.toList.drop 0 = dktX0_had_0 := by decide +kernel
theorem dX0_had_0 : decode cX0_had 0 = .ok (.aload_n 0, 1) := dk_42 (dk_at dksX0_had_0 0 rfl rfl)
theorem dX0_had_1 : decode cX0_had 1 = .ok (.iconst 0, 1) := dk_3 (dk_at dksX0_had_0 1 rfl rfl)
theorem dX0_had_2 : decode cX0_had 2 = .ok (.putfield 106, 3) := dk_181 0 106 (dk_at dksX0_had_0 2 rfl rfl)
theorem dX0_had_5 : decode cX0_had 5 = .ok (.iload_n 1, 1) := dk_27 (dk_at dksX0_had_0 5 rfl rfl)
theorem dX0_had_6 : decode cX0_had 6 = .ok (.ireturn, 1) := dk_172 (dk_at dksX0_had_0 6 rfl rfl)
abbrev cX0_row : ByteArray := prog_1_method_29_code
def yX0_row : MethodName := ⟨RX0, "row", "()I"⟩
def dkwX0_row_9 : List UInt8 := [167, 255, 99, 42, 28, 182, 0, 169, 172]
abbrev dktX0_row_9 : List UInt8 := dkwX0_row_9 ++ []
def dkwX0_row_8 : List UInt8 := [180, 0, 225, 21, 4, 153, 0, 7, 3, 167, 0, 4, 4, 96, 181, 0, 225, 25, 6, 191, 132, 3, 3]
abbrev dktX0_row_8 : List UInt8 := dkwX0_row_8 ++ dktX0_row_9
def dkwX0_row_7 : List UInt8 := [181, 0, 225, 167, 0, 40, 58, 6, 28, 21, 4, 153, 0, 7, 4, 167, 0, 4, 3, 96, 61, 42, 89]
abbrev dktX0_row_7 : List UInt8 := dkwX0_row_7 ++ dktX0_row_8
def dkwX0_row_6 : List UInt8 := [167, 0, 4, 3, 96, 61, 42, 89, 180, 0, 225, 21, 4, 153, 0, 7, 3, 167, 0, 4, 4, 96]
abbrev dktX0_row_6 : List UInt8 := dkwX0_row_6 ++ dktX0_row_7
def dkwX0_row_5 : List UInt8 := [167, 0, 4, 4, 96, 181, 0, 225, 167, 0, 80, 58, 5, 3, 54, 4, 28, 21, 4, 153, 0, 7, 4]
abbrev dktX0_row_5 : List UInt8 := dkwX0_row_5 ++ dktX0_row_6
def dkwX0_row_4 : List UInt8 := [21, 4, 153, 0, 7, 4, 167, 0, 4, 3, 96, 61, 42, 89, 180, 0, 225, 21, 4, 153, 0, 7, 3]
abbrev dktX0_row_4 : List UInt8 := dkwX0_row_4 ++ dktX0_row_5
def dkwX0_row_3 : List UInt8 := [184, 0, 228, 43, 29, 5, 96, 184, 0, 228, 182, 0, 165, 155, 0, 7, 4, 167, 0, 4, 3, 54, 4, 28]
abbrev dktX0_row_3 : List UInt8 := dkwX0_row_3 ++ dktX0_row_4
def dkwX0_row_2 : List UInt8 := [61, 3, 62, 29, 43, 190, 162, 0, 157, 3, 54, 4, 42, 43, 29, 184, 0, 228, 43, 29, 4, 96]
abbrev dktX0_row_2 : List UInt8 := dkwX0_row_2 ++ dktX0_row_3
def dkwX0_row_1 : List UInt8 := [180, 0, 72, 3, 43, 3, 42, 180, 0, 148, 184, 0, 219, 42, 3, 181, 0, 148, 42, 3, 181, 0, 225, 3]
abbrev dktX0_row_1 : List UInt8 := dkwX0_row_1 ++ dktX0_row_2
def dkwX0_row_0 : List UInt8 := [42, 180, 0, 148, 154, 0, 10, 42, 16, 250, 182, 0, 112, 172, 42, 180, 0, 148, 188, 8, 76, 42]
abbrev dktX0_row_0 : List UInt8 := dkwX0_row_0 ++ dktX0_row_1
theorem dksX0_row_0 : cX0_row.data.toList.drop 0 = dktX0_row_0 := by decide +kernel
theorem dksX0_row_1 : cX0_row.data.toList.drop 22 = dktX0_row_1 := dk_seg dksX0_row_0 22 rfl rfl
theorem dksX0_row_2 : cX0_row.data.toList.drop 46 = dktX0_row_2 := dk_seg dksX0_row_1 24 rfl rfl
theorem dksX0_row_3 : cX0_row.data.toList.drop 68 = dktX0_row_3 := dk_seg dksX0_row_2 22 rfl rfl
theorem dksX0_row_4 : cX0_row.data.toList.drop 92 = dktX0_row_4 := dk_seg dksX0_row_3 24 rfl rfl
theorem dksX0_row_5 : cX0_row.data.toList.drop 115 = dktX0_row_5 := dk_seg dksX0_row_4 23 rfl rfl
theorem dksX0_row_6 : cX0_row.data.toList.drop 138 = dktX0_row_6 := dk_seg dksX0_row_5 23 rfl rfl
theorem dksX0_row_7 : cX0_row.data.toList.drop 160 = dktX0_row_7 := dk_seg dksX0_row_6 22 rfl rfl
theorem dksX0_row_8 : cX0_row.data.toList.drop 183 = dktX0_row_8 := dk_seg dksX0_row_7 23 rfl rfl
theorem dksX0_row_9 : cX0_row.data.toList.drop 206 = dktX0_row_9 := dk_seg dksX0_row_8 23 rfl rfl
theorem dX0_row_0 : decode cX0_row 0 = .ok (.aload_n 0, 1) := dk_42 (dk_at dksX0_row_0 0 rfl rfl)
theorem dX0_row_1 : decode cX0_row 1 = .ok (.getfield 148, 3) := dk_180 0 148 (dk_at dksX0_row_0 1 rfl rfl)
theorem dX0_row_4 : decode cX0_row 4 = .ok (.ifCond .ne 10, 3) := dk_154 0 10 (dk_at dksX0_row_0 4 rfl rfl)
theorem dX0_row_7 : decode cX0_row 7 = .ok (.aload_n 0, 1) := dk_42 (dk_at dksX0_row_0 7 rfl rfl)
theorem dX0_row_8 : decode cX0_row 8 = .ok (.bipush (-6), 2) := dk_16 250 (dk_at dksX0_row_0 8 rfl rfl)
theorem dX0_row_10 : decode cX0_row 10 = .ok (.invokevirtual 112, 3) := dk_182 0 112 (dk_at dksX0_row_0 10 rfl rfl)
theorem dX0_row_13 : decode cX0_row 13 = .ok (.ireturn, 1) := dk_172 (dk_at dksX0_row_0 13 rfl rfl)
theorem dX0_row_14 : decode cX0_row 14 = .ok (.aload_n 0, 1) := dk_42 (dk_at dksX0_row_0 14 rfl rfl)
theorem dX0_row_15 : decode cX0_row 15 = .ok (.getfield 148, 3) := dk_180 0 148 (dk_at dksX0_row_0 15 rfl rfl)
theorem dX0_row_18 : decode cX0_row 18 = .ok (.newarray .byte, 2) := dk_188_8 (dk_at dksX0_row_0 18 rfl rfl)
theorem dX0_row_20 : decode cX0_row 20 = .ok (.astore_n 1, 1) := dk_76 (dk_at dksX0_row_0 20 rfl rfl)
theorem dX0_row_21 : decode cX0_row 21 = .ok (.aload_n 0, 1) := dk_42 (dk_at dksX0_row_0 21 rfl rfl)
theorem dX0_row_22 : decode cX0_row 22 = .ok (.getfield 72, 3) := dk_180 0 72 (dk_at dksX0_row_1 0 rfl rfl)
theorem dX0_row_25 : decode cX0_row 25 = .ok (.iconst 0, 1) := dk_3 (dk_at dksX0_row_1 3 rfl rfl)
theorem dX0_row_26 : decode cX0_row 26 = .ok (.aload_n 1, 1) := dk_43 (dk_at dksX0_row_1 4 rfl rfl)
theorem dX0_row_27 : decode cX0_row 27 = .ok (.iconst 0, 1) := dk_3 (dk_at dksX0_row_1 5 rfl rfl)
theorem dX0_row_28 : decode cX0_row 28 = .ok (.aload_n 0, 1) := dk_42 (dk_at dksX0_row_1 6 rfl rfl)
theorem dX0_row_29 : decode cX0_row 29 = .ok (.getfield 148, 3) := dk_180 0 148 (dk_at dksX0_row_1 7 rfl rfl)
theorem dX0_row_32 : decode cX0_row 32 = .ok (.invokestatic 219, 3) := dk_184 0 219 (dk_at dksX0_row_1 10 rfl rfl)
theorem dX0_row_35 : decode cX0_row 35 = .ok (.aload_n 0, 1) := dk_42 (dk_at dksX0_row_1 13 rfl rfl)
theorem dX0_row_36 : decode cX0_row 36 = .ok (.iconst 0, 1) := dk_3 (dk_at dksX0_row_1 14 rfl rfl)
theorem dX0_row_37 : decode cX0_row 37 = .ok (.putfield 148, 3) := dk_181 0 148 (dk_at dksX0_row_1 15 rfl rfl)
theorem dX0_row_40 : decode cX0_row 40 = .ok (.aload_n 0, 1) := dk_42 (dk_at dksX0_row_1 18 rfl rfl)
theorem dX0_row_41 : decode cX0_row 41 = .ok (.iconst 0, 1) := dk_3 (dk_at dksX0_row_1 19 rfl rfl)
theorem dX0_row_42 : decode cX0_row 42 = .ok (.putfield 225, 3) := dk_181 0 225 (dk_at dksX0_row_1 20 rfl rfl)
theorem dX0_row_45 : decode cX0_row 45 = .ok (.iconst 0, 1) := dk_3 (dk_at dksX0_row_1 23 rfl rfl)
theorem dX0_row_46 : decode cX0_row 46 = .ok (.istore_n 2, 1) := dk_61 (dk_at dksX0_row_2 0 rfl rfl)
theorem dX0_row_47 : decode cX0_row 47 = .ok (.iconst 0, 1) := dk_3 (dk_at dksX0_row_2 1 rfl rfl)
theorem dX0_row_48 : decode cX0_row 48 = .ok (.istore_n 3, 1) := dk_62 (dk_at dksX0_row_2 2 rfl rfl)
theorem dX0_row_49 : decode cX0_row 49 = .ok (.iload_n 3, 1) := dk_29 (dk_at dksX0_row_2 3 rfl rfl)
theorem dX0_row_50 : decode cX0_row 50 = .ok (.aload_n 1, 1) := dk_43 (dk_at dksX0_row_2 4 rfl rfl)
theorem dX0_row_51 : decode cX0_row 51 = .ok (.arraylength, 1) := dk_190 (dk_at dksX0_row_2 5 rfl rfl)
theorem dX0_row_52 : decode cX0_row 52 = .ok (.if_icmp .ge 157, 3) := dk_162 0 157 (dk_at dksX0_row_2 6 rfl rfl)
theorem dX0_row_55 : decode cX0_row 55 = .ok (.iconst 0, 1) := dk_3 (dk_at dksX0_row_2 9 rfl rfl)
theorem dX0_row_56 : decode cX0_row 56 = .ok (.istore 4, 2) := dk_54 4 (dk_at dksX0_row_2 10 rfl rfl)
theorem dX0_row_58 : decode cX0_row 58 = .ok (.aload_n 0, 1) := dk_42 (dk_at dksX0_row_2 12 rfl rfl)
theorem dX0_row_59 : decode cX0_row 59 = .ok (.aload_n 1, 1) := dk_43 (dk_at dksX0_row_2 13 rfl rfl)
theorem dX0_row_60 : decode cX0_row 60 = .ok (.iload_n 3, 1) := dk_29 (dk_at dksX0_row_2 14 rfl rfl)
theorem dX0_row_61 : decode cX0_row 61 = .ok (.invokestatic 228, 3) := dk_184 0 228 (dk_at dksX0_row_2 15 rfl rfl)
theorem dX0_row_64 : decode cX0_row 64 = .ok (.aload_n 1, 1) := dk_43 (dk_at dksX0_row_2 18 rfl rfl)
theorem dX0_row_65 : decode cX0_row 65 = .ok (.iload_n 3, 1) := dk_29 (dk_at dksX0_row_2 19 rfl rfl)
theorem dX0_row_66 : decode cX0_row 66 = .ok (.iconst 1, 1) := dk_4 (dk_at dksX0_row_2 20 rfl rfl)
theorem dX0_row_67 : decode cX0_row 67 = .ok (.iadd, 1) := dk_96 (dk_at dksX0_row_2 21 rfl rfl)
theorem dX0_row_68 : decode cX0_row 68 = .ok (.invokestatic 228, 3) := dk_184 0 228 (dk_at dksX0_row_3 0 rfl rfl)
theorem dX0_row_71 : decode cX0_row 71 = .ok (.aload_n 1, 1) := dk_43 (dk_at dksX0_row_3 3 rfl rfl)
theorem dX0_row_72 : decode cX0_row 72 = .ok (.iload_n 3, 1) := dk_29 (dk_at dksX0_row_3 4 rfl rfl)
theorem dX0_row_73 : decode cX0_row 73 = .ok (.iconst 2, 1) := dk_5 (dk_at dksX0_row_3 5 rfl rfl)
theorem dX0_row_74 : decode cX0_row 74 = .ok (.iadd, 1) := dk_96 (dk_at dksX0_row_3 6 rfl rfl)
theorem dX0_row_75 : decode cX0_row 75 = .ok (.invokestatic 228, 3) := dk_184 0 228 (dk_at dksX0_row_3 7 rfl rfl)
theorem dX0_row_78 : decode cX0_row 78 = .ok (.invokevirtual 165, 3) := dk_182 0 165 (dk_at dksX0_row_3 10 rfl rfl)
theorem dX0_row_81 : decode cX0_row 81 = .ok (.ifCond .lt 7, 3) := dk_155 0 7 (dk_at dksX0_row_3 13 rfl rfl)
theorem dX0_row_84 : decode cX0_row 84 = .ok (.iconst 1, 1) := dk_4 (dk_at dksX0_row_3 16 rfl rfl)
theorem dX0_row_85 : decode cX0_row 85 = .ok (.goto 4, 3) := dk_167 0 4 (dk_at dksX0_row_3 17 rfl rfl)
theorem dX0_row_88 : decode cX0_row 88 = .ok (.iconst 0, 1) := dk_3 (dk_at dksX0_row_3 20 rfl rfl)
theorem dX0_row_89 : decode cX0_row 89 = .ok (.istore 4, 2) := dk_54 4 (dk_at dksX0_row_3 21 rfl rfl)
theorem dX0_row_91 : decode cX0_row 91 = .ok (.iload_n 2, 1) := dk_28 (dk_at dksX0_row_3 23 rfl rfl)
theorem dX0_row_92 : decode cX0_row 92 = .ok (.iload 4, 2) := dk_21 4 (dk_at dksX0_row_4 0 rfl rfl)
theorem dX0_row_94 : decode cX0_row 94 = .ok (.ifCond .eq 7, 3) := dk_153 0 7 (dk_at dksX0_row_4 2 rfl rfl)
theorem dX0_row_97 : decode cX0_row 97 = .ok (.iconst 1, 1) := dk_4 (dk_at dksX0_row_4 5 rfl rfl)
theorem dX0_row_98 : decode cX0_row 98 = .ok (.goto 4, 3) := dk_167 0 4 (dk_at dksX0_row_4 6 rfl rfl)
theorem dX0_row_101 : decode cX0_row 101 = .ok (.iconst 0, 1) := dk_3 (dk_at dksX0_row_4 9 rfl rfl)
theorem dX0_row_102 : decode cX0_row 102 = .ok (.iadd, 1) := dk_96 (dk_at dksX0_row_4 10 rfl rfl)
theorem dX0_row_103 : decode cX0_row 103 = .ok (.istore_n 2, 1) := dk_61 (dk_at dksX0_row_4 11 rfl rfl)
theorem dX0_row_104 : decode cX0_row 104 = .ok (.aload_n 0, 1) := dk_42 (dk_at dksX0_row_4 12 rfl rfl)
theorem dX0_row_105 : decode cX0_row 105 = .ok (.dup, 1) := dk_89 (dk_at dksX0_row_4 13 rfl rfl)
theorem dX0_row_106 : decode cX0_row 106 = .ok (.getfield 225, 3) := dk_180 0 225 (dk_at dksX0_row_4 14 rfl rfl)
theorem dX0_row_109 : decode cX0_row 109 = .ok (.iload 4, 2) := dk_21 4 (dk_at dksX0_row_4 17 rfl rfl)
theorem dX0_row_111 : decode cX0_row 111 = .ok (.ifCond .eq 7, 3) := dk_153 0 7 (dk_at dksX0_row_4 19 rfl rfl)
theorem dX0_row_114 : decode cX0_row 114 = .ok (.iconst 0, 1) := dk_3 (dk_at dksX0_row_4 22 rfl rfl)
theorem dX0_row_115 : decode cX0_row 115 = .ok (.goto 4, 3) := dk_167 0 4 (dk_at dksX0_row_5 0 rfl rfl)
theorem dX0_row_118 : decode cX0_row 118 = .ok (.iconst 1, 1) := dk_4 (dk_at dksX0_row_5 3 rfl rfl)
theorem dX0_row_119 : decode cX0_row 119 = .ok (.iadd, 1) := dk_96 (dk_at dksX0_row_5 4 rfl rfl)
theorem dX0_row_120 : decode cX0_row 120 = .ok (.putfield 225, 3) := dk_181 0 225 (dk_at dksX0_row_5 5 rfl rfl)
theorem dX0_row_123 : decode cX0_row 123 = .ok (.goto 80, 3) := dk_167 0 80 (dk_at dksX0_row_5 8 rfl rfl)
theorem dX0_row_126 : decode cX0_row 126 = .ok (.astore 5, 2) := dk_58 5 (dk_at dksX0_row_5 11 rfl rfl)
theorem dX0_row_128 : decode cX0_row 128 = .ok (.iconst 0, 1) := dk_3 (dk_at dksX0_row_5 13 rfl rfl)
theorem dX0_row_129 : decode cX0_row 129 = .ok (.istore 4, 2) := dk_54 4 (dk_at dksX0_row_5 14 rfl rfl)
theorem dX0_row_131 : decode cX0_row 131 = .ok (.iload_n 2, 1) := dk_28 (dk_at dksX0_row_5 16 rfl rfl)
theorem dX0_row_132 : decode cX0_row 132 = .ok (.iload 4, 2) := dk_21 4 (dk_at dksX0_row_5 17 rfl rfl)
theorem dX0_row_134 : decode cX0_row 134 = .ok (.ifCond .eq 7, 3) := dk_153 0 7 (dk_at dksX0_row_5 19 rfl rfl)
theorem dX0_row_137 : decode cX0_row 137 = .ok (.iconst 1, 1) := dk_4 (dk_at dksX0_row_5 22 rfl rfl)
theorem dX0_row_138 : decode cX0_row 138 = .ok (.goto 4, 3) := dk_167 0 4 (dk_at dksX0_row_6 0 rfl rfl)
theorem dX0_row_141 : decode cX0_row 141 = .ok (.iconst 0, 1) := dk_3 (dk_at dksX0_row_6 3 rfl rfl)
theorem dX0_row_142 : decode cX0_row 142 = .ok (.iadd, 1) := dk_96 (dk_at dksX0_row_6 4 rfl rfl)
theorem dX0_row_143 : decode cX0_row 143 = .ok (.istore_n 2, 1) := dk_61 (dk_at dksX0_row_6 5 rfl rfl)
theorem dX0_row_144 : decode cX0_row 144 = .ok (.aload_n 0, 1) := dk_42 (dk_at dksX0_row_6 6 rfl rfl)
theorem dX0_row_145 : decode cX0_row 145 = .ok (.dup, 1) := dk_89 (dk_at dksX0_row_6 7 rfl rfl)
theorem dX0_row_146 : decode cX0_row 146 = .ok (.getfield 225, 3) := dk_180 0 225 (dk_at dksX0_row_6 8 rfl rfl)
theorem dX0_row_149 : decode cX0_row 149 = .ok (.iload 4, 2) := dk_21 4 (dk_at dksX0_row_6 11 rfl rfl)
theorem dX0_row_151 : decode cX0_row 151 = .ok (.ifCond .eq 7, 3) := dk_153 0 7 (dk_at dksX0_row_6 13 rfl rfl)
theorem dX0_row_154 : decode cX0_row 154 = .ok (.iconst 0, 1) := dk_3 (dk_at dksX0_row_6 16 rfl rfl)
theorem dX0_row_155 : decode cX0_row 155 = .ok (.goto 4, 3) := dk_167 0 4 (dk_at dksX0_row_6 17 rfl rfl)
theorem dX0_row_158 : decode cX0_row 158 = .ok (.iconst 1, 1) := dk_4 (dk_at dksX0_row_6 20 rfl rfl)
theorem dX0_row_159 : decode cX0_row 159 = .ok (.iadd, 1) := dk_96 (dk_at dksX0_row_6 21 rfl rfl)
theorem dX0_row_160 : decode cX0_row 160 = .ok (.putfield 225, 3) := dk_181 0 225 (dk_at dksX0_row_7 0 rfl rfl)
theorem dX0_row_163 : decode cX0_row 163 = .ok (.goto 40, 3) := dk_167 0 40 (dk_at dksX0_row_7 3 rfl rfl)
theorem dX0_row_166 : decode cX0_row 166 = .ok (.astore 6, 2) := dk_58 6 (dk_at dksX0_row_7 6 rfl rfl)
theorem dX0_row_168 : decode cX0_row 168 = .ok (.iload_n 2, 1) := dk_28 (dk_at dksX0_row_7 8 rfl rfl)
theorem dX0_row_169 : decode cX0_row 169 = .ok (.iload 4, 2) := dk_21 4 (dk_at dksX0_row_7 9 rfl rfl)
theorem dX0_row_171 : decode cX0_row 171 = .ok (.ifCond .eq 7, 3) := dk_153 0 7 (dk_at dksX0_row_7 11 rfl rfl)
theorem dX0_row_174 : decode cX0_row 174 = .ok (.iconst 1, 1) := dk_4 (dk_at dksX0_row_7 14 rfl rfl)
theorem dX0_row_175 : decode cX0_row 175 = .ok (.goto 4, 3) := dk_167 0 4 (dk_at dksX0_row_7 15 rfl rfl)
theorem dX0_row_178 : decode cX0_row 178 = .ok (.iconst 0, 1) := dk_3 (dk_at dksX0_row_7 18 rfl rfl)
theorem dX0_row_179 : decode cX0_row 179 = .ok (.iadd, 1) := dk_96 (dk_at dksX0_row_7 19 rfl rfl)
theorem dX0_row_180 : decode cX0_row 180 = .ok (.istore_n 2, 1) := dk_61 (dk_at dksX0_row_7 20 rfl rfl)
theorem dX0_row_181 : decode cX0_row 181 = .ok (.aload_n 0, 1) := dk_42 (dk_at dksX0_row_7 21 rfl rfl)
theorem dX0_row_182 : decode cX0_row 182 = .ok (.dup, 1) := dk_89 (dk_at dksX0_row_7 22 rfl rfl)
theorem dX0_row_183 : decode cX0_row 183 = .ok (.getfield 225, 3) := dk_180 0 225 (dk_at dksX0_row_8 0 rfl rfl)
theorem dX0_row_186 : decode cX0_row 186 = .ok (.iload 4, 2) := dk_21 4 (dk_at dksX0_row_8 3 rfl rfl)
theorem dX0_row_188 : decode cX0_row 188 = .ok (.ifCond .eq 7, 3) := dk_153 0 7 (dk_at dksX0_row_8 5 rfl rfl)
theorem dX0_row_191 : decode cX0_row 191 = .ok (.iconst 0, 1) := dk_3 (dk_at dksX0_row_8 8 rfl rfl)
theorem dX0_row_192 : decode cX0_row 192 = .ok (.goto 4, 3) := dk_167 0 4 (dk_at dksX0_row_8 9 rfl rfl)
theorem dX0_row_195 : decode cX0_row 195 = .ok (.iconst 1, 1) := dk_4 (dk_at dksX0_row_8 12 rfl rfl)
theorem dX0_row_196 : decode cX0_row 196 = .ok (.iadd, 1) := dk_96 (dk_at dksX0_row_8 13 rfl rfl)
theorem dX0_row_197 : decode cX0_row 197 = .ok (.putfield 225, 3) := dk_181 0 225 (dk_at dksX0_row_8 14 rfl rfl)
theorem dX0_row_200 : decode cX0_row 200 = .ok (.aload 6, 2) := dk_25 6 (dk_at dksX0_row_8 17 rfl rfl)
theorem dX0_row_202 : decode cX0_row 202 = .ok (.athrow, 1) := dk_191 (dk_at dksX0_row_8 19 rfl rfl)
theorem dX0_row_203 : decode cX0_row 203 = .ok (.iinc 3 3, 3) := dk_132 3 3 (dk_at dksX0_row_8 20 rfl rfl)
theorem dX0_row_206 : decode cX0_row 206 = .ok (.goto (-157), 3) := dk_167 255 99 (dk_at dksX0_row_9 0 rfl rfl)
theorem dX0_row_209 : decode cX0_row 209 = .ok (.aload_n 0, 1) := dk_42 (dk_at dksX0_row_9 3 rfl rfl)
theorem dX0_row_210 : decode cX0_row 210 = .ok (.iload_n 2, 1) := dk_28 (dk_at dksX0_row_9 4 rfl rfl)
theorem dX0_row_211 : decode cX0_row 211 = .ok (.invokevirtual 169, 3) := dk_182 0 169 (dk_at dksX0_row_9 5 rfl rfl)
theorem dX0_row_214 : decode cX0_row 214 = .ok (.ireturn, 1) := dk_172 (dk_at dksX0_row_9 8 rfl rfl)
abbrev cX0_byteAt : ByteArray := prog_1_method_28_code
def yX0_byteAt : MethodName := ⟨RX0, "byteAt", "([BI)I"⟩
def dkwX0_byteAt_0 : List UInt8 := [42, 27, 51, 17, 0, 255, 126, 172]
abbrev dktX0_byteAt_0 : List UInt8 := dkwX0_byteAt_0 ++ []
theorem dksX0_byteAt_0 : cX0_byteAt.data.toList.drop 0 = dktX0_byteAt_0 := by decide +kernel
theorem dX0_byteAt_0 : decode cX0_byteAt 0 = .ok (.aload_n 0, 1) := dk_42 (dk_at dksX0_byteAt_0 0 rfl rfl)
theorem dX0_byteAt_1 : decode cX0_byteAt 1 = .ok (.iload_n 1, 1) := dk_27 (dk_at dksX0_byteAt_0 1 rfl rfl)
theorem dX0_byteAt_2 : decode cX0_byteAt 2 = .ok (.baload, 1) := dk_51 (dk_at dksX0_byteAt_0 2 rfl rfl)
theorem dX0_byteAt_3 : decode cX0_byteAt 3 = .ok (.sipush 255, 3) := dk_17 0 255 (dk_at dksX0_byteAt_0 3 rfl rfl)
theorem dX0_byteAt_6 : decode cX0_byteAt 6 = .ok (.iand, 1) := dk_126 (dk_at dksX0_byteAt_0 6 rfl rfl)
theorem dX0_byteAt_7 : decode cX0_byteAt 7 = .ok (.ireturn, 1) := dk_172 (dk_at dksX0_byteAt_0 7 rfl rfl)
abbrev cX0_slugs : ByteArray := prog_1_method_30_code
def yX0_slugs : MethodName := ⟨RX0, "slugs", "()I"⟩
theorem dX0_slugs_0 : decode cX0_slugs 0 = .ok (.aload_n 0, 1) := by decide +kernel
theorem dX0_slugs_1 : decode cX0_slugs 1 = .ok (.getfield 225, 3) := by decide +kernel
theorem dX0_slugs_4 : decode cX0_slugs 4 = .ok (.ireturn, 1) := by decide +kernel
abbrev cX0_law : ByteArray := prog_1_method_31_code
def yX0_law : MethodName := ⟨RX0, "law", "()I"⟩
def dkwX0_law_4 : List UInt8 := [182, 0, 112, 61, 42, 3, 181, 0, 148, 28, 172, 78, 42, 3, 181, 0, 148, 45, 191]
abbrev dktX0_law_4 : List UInt8 := dkwX0_law_4 ++ []
def dkwX0_law_3 : List UInt8 := [182, 0, 112, 60, 42, 3, 181, 0, 148, 27, 172, 76, 42, 43, 180, 1, 2, 181, 0, 65, 42, 16, 250]
abbrev dktX0_law_3 : List UInt8 := dkwX0_law_3 ++ dktX0_law_4
def dkwX0_law_2 : List UInt8 := [182, 0, 252, 87, 42, 2, 181, 0, 65, 42, 42, 180, 0, 10, 180, 0, 234, 182, 0, 238, 4, 100]
abbrev dktX0_law_2 : List UInt8 := dkwX0_law_2 ++ dktX0_law_3
def dkwX0_law_1 : List UInt8 := [182, 0, 112, 172, 42, 180, 0, 10, 180, 0, 234, 187, 0, 243, 89, 42, 183, 0, 245, 182, 0, 248]
abbrev dktX0_law_1 : List UInt8 := dkwX0_law_1 ++ dktX0_law_2
def dkwX0_law_0 : List UInt8 := [42, 180, 0, 10, 180, 0, 234, 182, 0, 238, 16, 6, 160, 0, 15, 42, 3, 181, 0, 148, 42, 16, 251]
abbrev dktX0_law_0 : List UInt8 := dkwX0_law_0 ++ dktX0_law_1
theorem dksX0_law_0 : cX0_law.data.toList.drop 0 = dktX0_law_0 := by decide +kernel
theorem dksX0_law_1 : cX0_law.data.toList.drop 23 = dktX0_law_1 := dk_seg dksX0_law_0 23 rfl rfl
theorem dksX0_law_2 : cX0_law.data.toList.drop 45 = dktX0_law_2 := dk_seg dksX0_law_1 22 rfl rfl
theorem dksX0_law_3 : cX0_law.data.toList.drop 67 = dktX0_law_3 := dk_seg dksX0_law_2 22 rfl rfl
theorem dksX0_law_4 : cX0_law.data.toList.drop 90 = dktX0_law_4 := dk_seg dksX0_law_3 23 rfl rfl
theorem dX0_law_0 : decode cX0_law 0 = .ok (.aload_n 0, 1) := dk_42 (dk_at dksX0_law_0 0 rfl rfl)
theorem dX0_law_1 : decode cX0_law 1 = .ok (.getfield 10, 3) := dk_180 0 10 (dk_at dksX0_law_0 1 rfl rfl)
theorem dX0_law_4 : decode cX0_law 4 = .ok (.getfield 234, 3) := dk_180 0 234 (dk_at dksX0_law_0 4 rfl rfl)
theorem dX0_law_7 : decode cX0_law 7 = .ok (.invokevirtual 238, 3) := dk_182 0 238 (dk_at dksX0_law_0 7 rfl rfl)
theorem dX0_law_10 : decode cX0_law 10 = .ok (.bipush 6, 2) := dk_16 6 (dk_at dksX0_law_0 10 rfl rfl)
theorem dX0_law_12 : decode cX0_law 12 = .ok (.if_icmp .ne 15, 3) := dk_160 0 15 (dk_at dksX0_law_0 12 rfl rfl)
theorem dX0_law_15 : decode cX0_law 15 = .ok (.aload_n 0, 1) := dk_42 (dk_at dksX0_law_0 15 rfl rfl)
theorem dX0_law_16 : decode cX0_law 16 = .ok (.iconst 0, 1) := dk_3 (dk_at dksX0_law_0 16 rfl rfl)
theorem dX0_law_17 : decode cX0_law 17 = .ok (.putfield 148, 3) := dk_181 0 148 (dk_at dksX0_law_0 17 rfl rfl)
theorem dX0_law_20 : decode cX0_law 20 = .ok (.aload_n 0, 1) := dk_42 (dk_at dksX0_law_0 20 rfl rfl)
theorem dX0_law_21 : decode cX0_law 21 = .ok (.bipush (-5), 2) := dk_16 251 (dk_at dksX0_law_0 21 rfl rfl)
theorem dX0_law_23 : decode cX0_law 23 = .ok (.invokevirtual 112, 3) := dk_182 0 112 (dk_at dksX0_law_1 0 rfl rfl)
theorem dX0_law_26 : decode cX0_law 26 = .ok (.ireturn, 1) := dk_172 (dk_at dksX0_law_1 3 rfl rfl)
theorem dX0_law_27 : decode cX0_law 27 = .ok (.aload_n 0, 1) := dk_42 (dk_at dksX0_law_1 4 rfl rfl)
theorem dX0_law_28 : decode cX0_law 28 = .ok (.getfield 10, 3) := dk_180 0 10 (dk_at dksX0_law_1 5 rfl rfl)
theorem dX0_law_31 : decode cX0_law 31 = .ok (.getfield 234, 3) := dk_180 0 234 (dk_at dksX0_law_1 8 rfl rfl)
theorem dX0_law_34 : decode cX0_law 34 = .ok (.new 243, 3) := dk_187 0 243 (dk_at dksX0_law_1 11 rfl rfl)
theorem dX0_law_37 : decode cX0_law 37 = .ok (.dup, 1) := dk_89 (dk_at dksX0_law_1 14 rfl rfl)
theorem dX0_law_38 : decode cX0_law 38 = .ok (.aload_n 0, 1) := dk_42 (dk_at dksX0_law_1 15 rfl rfl)
theorem dX0_law_39 : decode cX0_law 39 = .ok (.invokespecial 245, 3) := dk_183 0 245 (dk_at dksX0_law_1 16 rfl rfl)
theorem dX0_law_42 : decode cX0_law 42 = .ok (.invokevirtual 248, 3) := dk_182 0 248 (dk_at dksX0_law_1 19 rfl rfl)
theorem dX0_law_45 : decode cX0_law 45 = .ok (.invokevirtual 252, 3) := dk_182 0 252 (dk_at dksX0_law_2 0 rfl rfl)
theorem dX0_law_48 : decode cX0_law 48 = .ok (.pop, 1) := dk_87 (dk_at dksX0_law_2 3 rfl rfl)
theorem dX0_law_49 : decode cX0_law 49 = .ok (.aload_n 0, 1) := dk_42 (dk_at dksX0_law_2 4 rfl rfl)
theorem dX0_law_50 : decode cX0_law 50 = .ok (.iconst (-1), 1) := dk_2 (dk_at dksX0_law_2 5 rfl rfl)
theorem dX0_law_51 : decode cX0_law 51 = .ok (.putfield 65, 3) := dk_181 0 65 (dk_at dksX0_law_2 6 rfl rfl)
theorem dX0_law_54 : decode cX0_law 54 = .ok (.aload_n 0, 1) := dk_42 (dk_at dksX0_law_2 9 rfl rfl)
theorem dX0_law_55 : decode cX0_law 55 = .ok (.aload_n 0, 1) := dk_42 (dk_at dksX0_law_2 10 rfl rfl)
theorem dX0_law_56 : decode cX0_law 56 = .ok (.getfield 10, 3) := dk_180 0 10 (dk_at dksX0_law_2 11 rfl rfl)
theorem dX0_law_59 : decode cX0_law 59 = .ok (.getfield 234, 3) := dk_180 0 234 (dk_at dksX0_law_2 14 rfl rfl)
theorem dX0_law_62 : decode cX0_law 62 = .ok (.invokevirtual 238, 3) := dk_182 0 238 (dk_at dksX0_law_2 17 rfl rfl)
theorem dX0_law_65 : decode cX0_law 65 = .ok (.iconst 1, 1) := dk_4 (dk_at dksX0_law_2 20 rfl rfl)
theorem dX0_law_66 : decode cX0_law 66 = .ok (.isub, 1) := dk_100 (dk_at dksX0_law_2 21 rfl rfl)
theorem dX0_law_67 : decode cX0_law 67 = .ok (.invokevirtual 112, 3) := dk_182 0 112 (dk_at dksX0_law_3 0 rfl rfl)
theorem dX0_law_70 : decode cX0_law 70 = .ok (.istore_n 1, 1) := dk_60 (dk_at dksX0_law_3 3 rfl rfl)
theorem dX0_law_71 : decode cX0_law 71 = .ok (.aload_n 0, 1) := dk_42 (dk_at dksX0_law_3 4 rfl rfl)
theorem dX0_law_72 : decode cX0_law 72 = .ok (.iconst 0, 1) := dk_3 (dk_at dksX0_law_3 5 rfl rfl)
theorem dX0_law_73 : decode cX0_law 73 = .ok (.putfield 148, 3) := dk_181 0 148 (dk_at dksX0_law_3 6 rfl rfl)
theorem dX0_law_76 : decode cX0_law 76 = .ok (.iload_n 1, 1) := dk_27 (dk_at dksX0_law_3 9 rfl rfl)
theorem dX0_law_77 : decode cX0_law 77 = .ok (.ireturn, 1) := dk_172 (dk_at dksX0_law_3 10 rfl rfl)
theorem dX0_law_78 : decode cX0_law 78 = .ok (.astore_n 1, 1) := dk_76 (dk_at dksX0_law_3 11 rfl rfl)
theorem dX0_law_79 : decode cX0_law 79 = .ok (.aload_n 0, 1) := dk_42 (dk_at dksX0_law_3 12 rfl rfl)
theorem dX0_law_80 : decode cX0_law 80 = .ok (.aload_n 1, 1) := dk_43 (dk_at dksX0_law_3 13 rfl rfl)
theorem dX0_law_81 : decode cX0_law 81 = .ok (.getfield 258, 3) := dk_180 1 2 (dk_at dksX0_law_3 14 rfl rfl)
theorem dX0_law_84 : decode cX0_law 84 = .ok (.putfield 65, 3) := dk_181 0 65 (dk_at dksX0_law_3 17 rfl rfl)
theorem dX0_law_87 : decode cX0_law 87 = .ok (.aload_n 0, 1) := dk_42 (dk_at dksX0_law_3 20 rfl rfl)
theorem dX0_law_88 : decode cX0_law 88 = .ok (.bipush (-6), 2) := dk_16 250 (dk_at dksX0_law_3 21 rfl rfl)
theorem dX0_law_90 : decode cX0_law 90 = .ok (.invokevirtual 112, 3) := dk_182 0 112 (dk_at dksX0_law_4 0 rfl rfl)
theorem dX0_law_93 : decode cX0_law 93 = .ok (.istore_n 2, 1) := dk_61 (dk_at dksX0_law_4 3 rfl rfl)
theorem dX0_law_94 : decode cX0_law 94 = .ok (.aload_n 0, 1) := dk_42 (dk_at dksX0_law_4 4 rfl rfl)
theorem dX0_law_95 : decode cX0_law 95 = .ok (.iconst 0, 1) := dk_3 (dk_at dksX0_law_4 5 rfl rfl)
theorem dX0_law_96 : decode cX0_law 96 = .ok (.putfield 148, 3) := dk_181 0 148 (dk_at dksX0_law_4 6 rfl rfl)
theorem dX0_law_99 : decode cX0_law 99 = .ok (.iload_n 2, 1) := dk_28 (dk_at dksX0_law_4 9 rfl rfl)
theorem dX0_law_100 : decode cX0_law 100 = .ok (.ireturn, 1) := dk_172 (dk_at dksX0_law_4 10 rfl rfl)
theorem dX0_law_101 : decode cX0_law 101 = .ok (.astore_n 3, 1) := dk_78 (dk_at dksX0_law_4 11 rfl rfl)
theorem dX0_law_102 : decode cX0_law 102 = .ok (.aload_n 0, 1) := dk_42 (dk_at dksX0_law_4 12 rfl rfl)
theorem dX0_law_103 : decode cX0_law 103 = .ok (.iconst 0, 1) := dk_3 (dk_at dksX0_law_4 13 rfl rfl)
theorem dX0_law_104 : decode cX0_law 104 = .ok (.putfield 148, 3) := dk_181 0 148 (dk_at dksX0_law_4 14 rfl rfl)
theorem dX0_law_107 : decode cX0_law 107 = .ok (.aload_n 3, 1) := dk_45 (dk_at dksX0_law_4 17 rfl rfl)
theorem dX0_law_108 : decode cX0_law 108 = .ok (.athrow, 1) := dk_191 (dk_at dksX0_law_4 18 rfl rfl)
abbrev cX0_isLetter : ByteArray := prog_1_method_17_code
def yX0_isLetter : MethodName := ⟨RX0, "isLetter", "(I)Z"⟩
def dkwX0_isLetter_0 : List UInt8 := [26, 16, 97, 161, 0, 13, 26, 16, 122, 163, 0, 7, 4, 167, 0, 4, 3, 172]
abbrev dktX0_isLetter_0 : List UInt8 := dkwX0_isLetter_0 ++ []
theorem dksX0_isLetter_0 : cX0_isLetter.data.toList.drop 0 = dktX0_isLetter_0 := by decide +kernel
theorem dX0_isLetter_0 : decode cX0_isLetter 0 = .ok (.iload_n 0, 1) := dk_26 (dk_at dksX0_isLetter_0 0 rfl rfl)
theorem dX0_isLetter_1 : decode cX0_isLetter 1 = .ok (.bipush 97, 2) := dk_16 97 (dk_at dksX0_isLetter_0 1 rfl rfl)
theorem dX0_isLetter_3 : decode cX0_isLetter 3 = .ok (.if_icmp .lt 13, 3) := dk_161 0 13 (dk_at dksX0_isLetter_0 3 rfl rfl)
theorem dX0_isLetter_6 : decode cX0_isLetter 6 = .ok (.iload_n 0, 1) := dk_26 (dk_at dksX0_isLetter_0 6 rfl rfl)
theorem dX0_isLetter_7 : decode cX0_isLetter 7 = .ok (.bipush 122, 2) := dk_16 122 (dk_at dksX0_isLetter_0 7 rfl rfl)
theorem dX0_isLetter_9 : decode cX0_isLetter 9 = .ok (.if_icmp .gt 7, 3) := dk_163 0 7 (dk_at dksX0_isLetter_0 9 rfl rfl)
theorem dX0_isLetter_12 : decode cX0_isLetter 12 = .ok (.iconst 1, 1) := dk_4 (dk_at dksX0_isLetter_0 12 rfl rfl)
theorem dX0_isLetter_13 : decode cX0_isLetter 13 = .ok (.goto 4, 3) := dk_167 0 4 (dk_at dksX0_isLetter_0 13 rfl rfl)
theorem dX0_isLetter_16 : decode cX0_isLetter 16 = .ok (.iconst 0, 1) := dk_3 (dk_at dksX0_isLetter_0 16 rfl rfl)
theorem dX0_isLetter_17 : decode cX0_isLetter 17 = .ok (.ireturn, 1) := dk_172 (dk_at dksX0_isLetter_0 17 rfl rfl)
abbrev cX0_isDigit : ByteArray := prog_1_method_18_code
def yX0_isDigit : MethodName := ⟨RX0, "isDigit", "(I)Z"⟩
def dkwX0_isDigit_0 : List UInt8 := [26, 16, 48, 161, 0, 13, 26, 16, 57, 163, 0, 7, 4, 167, 0, 4, 3, 172]
abbrev dktX0_isDigit_0 : List UInt8 := dkwX0_isDigit_0 ++ []
theorem dksX0_isDigit_0 : cX0_isDigit.data.toList.drop 0 = dktX0_isDigit_0 := by decide +kernel
theorem dX0_isDigit_0 : decode cX0_isDigit 0 = .ok (.iload_n 0, 1) := dk_26 (dk_at dksX0_isDigit_0 0 rfl rfl)
theorem dX0_isDigit_1 : decode cX0_isDigit 1 = .ok (.bipush 48, 2) := dk_16 48 (dk_at dksX0_isDigit_0 1 rfl rfl)
theorem dX0_isDigit_3 : decode cX0_isDigit 3 = .ok (.if_icmp .lt 13, 3) := dk_161 0 13 (dk_at dksX0_isDigit_0 3 rfl rfl)
theorem dX0_isDigit_6 : decode cX0_isDigit 6 = .ok (.iload_n 0, 1) := dk_26 (dk_at dksX0_isDigit_0 6 rfl rfl)
theorem dX0_isDigit_7 : decode cX0_isDigit 7 = .ok (.bipush 57, 2) := dk_16 57 (dk_at dksX0_isDigit_0 7 rfl rfl)
theorem dX0_isDigit_9 : decode cX0_isDigit 9 = .ok (.if_icmp .gt 7, 3) := dk_163 0 7 (dk_at dksX0_isDigit_0 9 rfl rfl)
theorem dX0_isDigit_12 : decode cX0_isDigit 12 = .ok (.iconst 1, 1) := dk_4 (dk_at dksX0_isDigit_0 12 rfl rfl)
theorem dX0_isDigit_13 : decode cX0_isDigit 13 = .ok (.goto 4, 3) := dk_167 0 4 (dk_at dksX0_isDigit_0 13 rfl rfl)
theorem dX0_isDigit_16 : decode cX0_isDigit 16 = .ok (.iconst 0, 1) := dk_3 (dk_at dksX0_isDigit_0 16 rfl rfl)
theorem dX0_isDigit_17 : decode cX0_isDigit 17 = .ok (.ireturn, 1) := dk_172 (dk_at dksX0_isDigit_0 17 rfl rfl)
abbrev cX0_fault : ByteArray := prog_1_method_32_code
def yX0_fault : MethodName := ⟨RX0, "fault", "()I"⟩
theorem dX0_fault_0 : decode cX0_fault 0 = .ok (.aload_n 0, 1) := by decide +kernel
theorem dX0_fault_1 : decode cX0_fault 1 = .ok (.getfield 65, 3) := by decide +kernel
theorem dX0_fault_4 : decode cX0_fault 4 = .ok (.ireturn, 1) := by decide +kernel
abbrev cX0_force : ByteArray := prog_1_method_34_code
def yX0_force : MethodName := ⟨RX0, "force", "(I)I"⟩
def dkwX0_force_1 : List UInt8 := [180, 0, 10, 27, 181, 1, 8, 42, 28, 182, 0, 216, 172]
abbrev dktX0_force_1 : List UInt8 := dkwX0_force_1 ++ []
def dkwX0_force_0 : List UInt8 := [42, 27, 182, 1, 5, 154, 0, 10, 42, 16, 254, 182, 0, 112, 172, 42, 180, 0, 10, 180, 1, 8, 61, 42]
abbrev dktX0_force_0 : List UInt8 := dkwX0_force_0 ++ dktX0_force_1
theorem dksX0_force_0 : cX0_force.data.toList.drop 0 = dktX0_force_0 := by decide +kernel
theorem dksX0_force_1 : cX0_force.data.toList.drop 24 = dktX0_force_1 := dk_seg dksX0_force_0 24 rfl rfl
theorem dX0_force_0 : decode cX0_force 0 = .ok (.aload_n 0, 1) := dk_42 (dk_at dksX0_force_0 0 rfl rfl)
theorem dX0_force_1 : decode cX0_force 1 = .ok (.iload_n 1, 1) := dk_27 (dk_at dksX0_force_0 1 rfl rfl)
theorem dX0_force_2 : decode cX0_force 2 = .ok (.invokevirtual 261, 3) := dk_182 1 5 (dk_at dksX0_force_0 2 rfl rfl)
theorem dX0_force_5 : decode cX0_force 5 = .ok (.ifCond .ne 10, 3) := dk_154 0 10 (dk_at dksX0_force_0 5 rfl rfl)
theorem dX0_force_8 : decode cX0_force 8 = .ok (.aload_n 0, 1) := dk_42 (dk_at dksX0_force_0 8 rfl rfl)
theorem dX0_force_9 : decode cX0_force 9 = .ok (.bipush (-2), 2) := dk_16 254 (dk_at dksX0_force_0 9 rfl rfl)
theorem dX0_force_11 : decode cX0_force 11 = .ok (.invokevirtual 112, 3) := dk_182 0 112 (dk_at dksX0_force_0 11 rfl rfl)
theorem dX0_force_14 : decode cX0_force 14 = .ok (.ireturn, 1) := dk_172 (dk_at dksX0_force_0 14 rfl rfl)
theorem dX0_force_15 : decode cX0_force 15 = .ok (.aload_n 0, 1) := dk_42 (dk_at dksX0_force_0 15 rfl rfl)
theorem dX0_force_16 : decode cX0_force 16 = .ok (.getfield 10, 3) := dk_180 0 10 (dk_at dksX0_force_0 16 rfl rfl)
theorem dX0_force_19 : decode cX0_force 19 = .ok (.getfield 264, 3) := dk_180 1 8 (dk_at dksX0_force_0 19 rfl rfl)
theorem dX0_force_22 : decode cX0_force 22 = .ok (.istore_n 2, 1) := dk_61 (dk_at dksX0_force_0 22 rfl rfl)
theorem dX0_force_23 : decode cX0_force 23 = .ok (.aload_n 0, 1) := dk_42 (dk_at dksX0_force_0 23 rfl rfl)
theorem dX0_force_24 : decode cX0_force 24 = .ok (.getfield 10, 3) := dk_180 0 10 (dk_at dksX0_force_1 0 rfl rfl)
theorem dX0_force_27 : decode cX0_force 27 = .ok (.iload_n 1, 1) := dk_27 (dk_at dksX0_force_1 3 rfl rfl)
theorem dX0_force_28 : decode cX0_force 28 = .ok (.putfield 264, 3) := dk_181 1 8 (dk_at dksX0_force_1 4 rfl rfl)
theorem dX0_force_31 : decode cX0_force 31 = .ok (.aload_n 0, 1) := dk_42 (dk_at dksX0_force_1 7 rfl rfl)
theorem dX0_force_32 : decode cX0_force 32 = .ok (.iload_n 2, 1) := dk_28 (dk_at dksX0_force_1 8 rfl rfl)
theorem dX0_force_33 : decode cX0_force 33 = .ok (.invokevirtual 216, 3) := dk_182 0 216 (dk_at dksX0_force_1 9 rfl rfl)
theorem dX0_force_36 : decode cX0_force 36 = .ok (.ireturn, 1) := dk_172 (dk_at dksX0_force_1 12 rfl rfl)
abbrev cX0_isLaw : ByteArray := prog_1_method_33_code
def yX0_isLaw : MethodName := ⟨RX0, "isLaw", "(I)Z"⟩
def dkwX0_isLaw_1 : List UInt8 := [153, 0, 7, 4, 167, 0, 4, 3, 172]
abbrev dktX0_isLaw_1 : List UInt8 := dkwX0_isLaw_1 ++ []
def dkwX0_isLaw_0 : List UInt8 := [27, 2, 159, 0, 25, 27, 133, 9, 42, 180, 0, 10, 180, 0, 234, 182, 0, 238, 4, 100, 133, 184, 0, 128]
abbrev dktX0_isLaw_0 : List UInt8 := dkwX0_isLaw_0 ++ dktX0_isLaw_1
theorem dksX0_isLaw_0 : cX0_isLaw.data.toList.drop 0 = dktX0_isLaw_0 := by decide +kernel
theorem dksX0_isLaw_1 : cX0_isLaw.data.toList.drop 24 = dktX0_isLaw_1 := dk_seg dksX0_isLaw_0 24 rfl rfl
theorem dX0_isLaw_0 : decode cX0_isLaw 0 = .ok (.iload_n 1, 1) := dk_27 (dk_at dksX0_isLaw_0 0 rfl rfl)
theorem dX0_isLaw_1 : decode cX0_isLaw 1 = .ok (.iconst (-1), 1) := dk_2 (dk_at dksX0_isLaw_0 1 rfl rfl)
theorem dX0_isLaw_2 : decode cX0_isLaw 2 = .ok (.if_icmp .eq 25, 3) := dk_159 0 25 (dk_at dksX0_isLaw_0 2 rfl rfl)
theorem dX0_isLaw_5 : decode cX0_isLaw 5 = .ok (.iload_n 1, 1) := dk_27 (dk_at dksX0_isLaw_0 5 rfl rfl)
theorem dX0_isLaw_6 : decode cX0_isLaw 6 = .ok (.i2l, 1) := dk_133 (dk_at dksX0_isLaw_0 6 rfl rfl)
theorem dX0_isLaw_7 : decode cX0_isLaw 7 = .ok (.lconst 0, 1) := dk_9 (dk_at dksX0_isLaw_0 7 rfl rfl)
theorem dX0_isLaw_8 : decode cX0_isLaw 8 = .ok (.aload_n 0, 1) := dk_42 (dk_at dksX0_isLaw_0 8 rfl rfl)
theorem dX0_isLaw_9 : decode cX0_isLaw 9 = .ok (.getfield 10, 3) := dk_180 0 10 (dk_at dksX0_isLaw_0 9 rfl rfl)
theorem dX0_isLaw_12 : decode cX0_isLaw 12 = .ok (.getfield 234, 3) := dk_180 0 234 (dk_at dksX0_isLaw_0 12 rfl rfl)
theorem dX0_isLaw_15 : decode cX0_isLaw 15 = .ok (.invokevirtual 238, 3) := dk_182 0 238 (dk_at dksX0_isLaw_0 15 rfl rfl)
theorem dX0_isLaw_18 : decode cX0_isLaw 18 = .ok (.iconst 1, 1) := dk_4 (dk_at dksX0_isLaw_0 18 rfl rfl)
theorem dX0_isLaw_19 : decode cX0_isLaw 19 = .ok (.isub, 1) := dk_100 (dk_at dksX0_isLaw_0 19 rfl rfl)
theorem dX0_isLaw_20 : decode cX0_isLaw 20 = .ok (.i2l, 1) := dk_133 (dk_at dksX0_isLaw_0 20 rfl rfl)
theorem dX0_isLaw_21 : decode cX0_isLaw 21 = .ok (.invokestatic 128, 3) := dk_184 0 128 (dk_at dksX0_isLaw_0 21 rfl rfl)
theorem dX0_isLaw_24 : decode cX0_isLaw 24 = .ok (.ifCond .eq 7, 3) := dk_153 0 7 (dk_at dksX0_isLaw_1 0 rfl rfl)
theorem dX0_isLaw_27 : decode cX0_isLaw 27 = .ok (.iconst 1, 1) := dk_4 (dk_at dksX0_isLaw_1 3 rfl rfl)
theorem dX0_isLaw_28 : decode cX0_isLaw 28 = .ok (.goto 4, 3) := dk_167 0 4 (dk_at dksX0_isLaw_1 4 rfl rfl)
theorem dX0_isLaw_31 : decode cX0_isLaw 31 = .ok (.iconst 0, 1) := dk_3 (dk_at dksX0_isLaw_1 7 rfl rfl)
theorem dX0_isLaw_32 : decode cX0_isLaw 32 = .ok (.ireturn, 1) := dk_172 (dk_at dksX0_isLaw_1 8 rfl rfl)
abbrev cX0_read : ByteArray := prog_1_method_44_code
def yX0_read : MethodName := ⟨RX0, "read", "(I)I"⟩
def dkwX0_read_0 : List UInt8 := [42, 42, 27, 182, 1, 53, 182, 0, 112, 172]
abbrev dktX0_read_0 : List UInt8 := dkwX0_read_0 ++ []
theorem dksX0_read_0 : cX0_read.data.toList.drop 0 = dktX0_read_0 := by decide +kernel
theorem dX0_read_0 : decode cX0_read 0 = .ok (.aload_n 0, 1) := dk_42 (dk_at dksX0_read_0 0 rfl rfl)
theorem dX0_read_1 : decode cX0_read 1 = .ok (.aload_n 0, 1) := dk_42 (dk_at dksX0_read_0 1 rfl rfl)
theorem dX0_read_2 : decode cX0_read 2 = .ok (.iload_n 1, 1) := dk_27 (dk_at dksX0_read_0 2 rfl rfl)
theorem dX0_read_3 : decode cX0_read 3 = .ok (.invokevirtual 309, 3) := dk_182 1 53 (dk_at dksX0_read_0 3 rfl rfl)
theorem dX0_read_6 : decode cX0_read 6 = .ok (.invokevirtual 112, 3) := dk_182 0 112 (dk_at dksX0_read_0 6 rfl rfl)
theorem dX0_read_9 : decode cX0_read 9 = .ok (.ireturn, 1) := dk_172 (dk_at dksX0_read_0 9 rfl rfl)
abbrev cX0_readNow : ByteArray := prog_1_method_43_code
def yX0_readNow : MethodName := ⟨RX0, "readNow", "(I)I"⟩
def dkwX0_readNow_1 : List UInt8 := [154, 0, 6, 16, 253, 172, 42, 180, 0, 23, 42, 182, 0, 135, 3, 182, 1, 46, 42, 27, 182, 1, 50, 172]
abbrev dktX0_readNow_1 : List UInt8 := dkwX0_readNow_1 ++ []
def dkwX0_readNow_0 : List UInt8 := [42, 27, 182, 0, 172, 154, 0, 6, 16, 254, 172, 42, 27, 182, 1, 40, 153, 0, 11, 42, 27, 182, 1, 43]
abbrev dktX0_readNow_0 : List UInt8 := dkwX0_readNow_0 ++ dktX0_readNow_1
theorem dksX0_readNow_0 : cX0_readNow.data.toList.drop 0 = dktX0_readNow_0 := by decide +kernel
theorem dksX0_readNow_1 : cX0_readNow.data.toList.drop 24 = dktX0_readNow_1 := dk_seg dksX0_readNow_0 24 rfl rfl
theorem dX0_readNow_0 : decode cX0_readNow 0 = .ok (.aload_n 0, 1) := dk_42 (dk_at dksX0_readNow_0 0 rfl rfl)
theorem dX0_readNow_1 : decode cX0_readNow 1 = .ok (.iload_n 1, 1) := dk_27 (dk_at dksX0_readNow_0 1 rfl rfl)
theorem dX0_readNow_2 : decode cX0_readNow 2 = .ok (.invokevirtual 172, 3) := dk_182 0 172 (dk_at dksX0_readNow_0 2 rfl rfl)
theorem dX0_readNow_5 : decode cX0_readNow 5 = .ok (.ifCond .ne 6, 3) := dk_154 0 6 (dk_at dksX0_readNow_0 5 rfl rfl)
theorem dX0_readNow_8 : decode cX0_readNow 8 = .ok (.bipush (-2), 2) := dk_16 254 (dk_at dksX0_readNow_0 8 rfl rfl)
theorem dX0_readNow_10 : decode cX0_readNow 10 = .ok (.ireturn, 1) := dk_172 (dk_at dksX0_readNow_0 10 rfl rfl)
theorem dX0_readNow_11 : decode cX0_readNow 11 = .ok (.aload_n 0, 1) := dk_42 (dk_at dksX0_readNow_0 11 rfl rfl)
theorem dX0_readNow_12 : decode cX0_readNow 12 = .ok (.iload_n 1, 1) := dk_27 (dk_at dksX0_readNow_0 12 rfl rfl)
theorem dX0_readNow_13 : decode cX0_readNow 13 = .ok (.invokevirtual 296, 3) := dk_182 1 40 (dk_at dksX0_readNow_0 13 rfl rfl)
theorem dX0_readNow_16 : decode cX0_readNow 16 = .ok (.ifCond .eq 11, 3) := dk_153 0 11 (dk_at dksX0_readNow_0 16 rfl rfl)
theorem dX0_readNow_19 : decode cX0_readNow 19 = .ok (.aload_n 0, 1) := dk_42 (dk_at dksX0_readNow_0 19 rfl rfl)
theorem dX0_readNow_20 : decode cX0_readNow 20 = .ok (.iload_n 1, 1) := dk_27 (dk_at dksX0_readNow_0 20 rfl rfl)
theorem dX0_readNow_21 : decode cX0_readNow 21 = .ok (.invokevirtual 299, 3) := dk_182 1 43 (dk_at dksX0_readNow_0 21 rfl rfl)
theorem dX0_readNow_24 : decode cX0_readNow 24 = .ok (.ifCond .ne 6, 3) := dk_154 0 6 (dk_at dksX0_readNow_1 0 rfl rfl)
theorem dX0_readNow_27 : decode cX0_readNow 27 = .ok (.bipush (-3), 2) := dk_16 253 (dk_at dksX0_readNow_1 3 rfl rfl)
theorem dX0_readNow_29 : decode cX0_readNow 29 = .ok (.ireturn, 1) := dk_172 (dk_at dksX0_readNow_1 5 rfl rfl)
theorem dX0_readNow_30 : decode cX0_readNow 30 = .ok (.aload_n 0, 1) := dk_42 (dk_at dksX0_readNow_1 6 rfl rfl)
theorem dX0_readNow_31 : decode cX0_readNow 31 = .ok (.getfield 23, 3) := dk_180 0 23 (dk_at dksX0_readNow_1 7 rfl rfl)
theorem dX0_readNow_34 : decode cX0_readNow 34 = .ok (.aload_n 0, 1) := dk_42 (dk_at dksX0_readNow_1 10 rfl rfl)
theorem dX0_readNow_35 : decode cX0_readNow 35 = .ok (.invokevirtual 135, 3) := dk_182 0 135 (dk_at dksX0_readNow_1 11 rfl rfl)
theorem dX0_readNow_38 : decode cX0_readNow 38 = .ok (.iconst 0, 1) := dk_3 (dk_at dksX0_readNow_1 14 rfl rfl)
theorem dX0_readNow_39 : decode cX0_readNow 39 = .ok (.invokevirtual 302, 3) := dk_182 1 46 (dk_at dksX0_readNow_1 15 rfl rfl)
theorem dX0_readNow_42 : decode cX0_readNow 42 = .ok (.aload_n 0, 1) := dk_42 (dk_at dksX0_readNow_1 18 rfl rfl)
theorem dX0_readNow_43 : decode cX0_readNow 43 = .ok (.iload_n 1, 1) := dk_27 (dk_at dksX0_readNow_1 19 rfl rfl)
theorem dX0_readNow_44 : decode cX0_readNow 44 = .ok (.invokevirtual 306, 3) := dk_182 1 50 (dk_at dksX0_readNow_1 20 rfl rfl)
theorem dX0_readNow_47 : decode cX0_readNow 47 = .ok (.ireturn, 1) := dk_172 (dk_at dksX0_readNow_1 23 rfl rfl)
abbrev cX0_canRead : ByteArray := prog_1_method_40_code
def yX0_canRead : MethodName := ⟨RX0, "canRead", "(I)Z"⟩
def dkwX0_canRead_1 : List UInt8 := [167, 0, 4, 3, 172]
abbrev dktX0_canRead_1 : List UInt8 := dkwX0_canRead_1 ++ []
def dkwX0_canRead_0 : List UInt8 := [42, 27, 42, 182, 0, 135, 180, 0, 138, 182, 0, 179, 153, 0, 15, 42, 27, 182, 0, 182, 154, 0, 7, 4]
abbrev dktX0_canRead_0 : List UInt8 := dkwX0_canRead_0 ++ dktX0_canRead_1
theorem dksX0_canRead_0 : cX0_canRead.data.toList.drop 0 = dktX0_canRead_0 := by decide +kernel
theorem dksX0_canRead_1 : cX0_canRead.data.toList.drop 24 = dktX0_canRead_1 := dk_seg dksX0_canRead_0 24 rfl rfl
theorem dX0_canRead_0 : decode cX0_canRead 0 = .ok (.aload_n 0, 1) := dk_42 (dk_at dksX0_canRead_0 0 rfl rfl)
theorem dX0_canRead_1 : decode cX0_canRead 1 = .ok (.iload_n 1, 1) := dk_27 (dk_at dksX0_canRead_0 1 rfl rfl)
theorem dX0_canRead_2 : decode cX0_canRead 2 = .ok (.aload_n 0, 1) := dk_42 (dk_at dksX0_canRead_0 2 rfl rfl)
theorem dX0_canRead_3 : decode cX0_canRead 3 = .ok (.invokevirtual 135, 3) := dk_182 0 135 (dk_at dksX0_canRead_0 3 rfl rfl)
theorem dX0_canRead_6 : decode cX0_canRead 6 = .ok (.getfield 138, 3) := dk_180 0 138 (dk_at dksX0_canRead_0 6 rfl rfl)
theorem dX0_canRead_9 : decode cX0_canRead 9 = .ok (.invokevirtual 179, 3) := dk_182 0 179 (dk_at dksX0_canRead_0 9 rfl rfl)
theorem dX0_canRead_12 : decode cX0_canRead 12 = .ok (.ifCond .eq 15, 3) := dk_153 0 15 (dk_at dksX0_canRead_0 12 rfl rfl)
theorem dX0_canRead_15 : decode cX0_canRead 15 = .ok (.aload_n 0, 1) := dk_42 (dk_at dksX0_canRead_0 15 rfl rfl)
theorem dX0_canRead_16 : decode cX0_canRead 16 = .ok (.iload_n 1, 1) := dk_27 (dk_at dksX0_canRead_0 16 rfl rfl)
theorem dX0_canRead_17 : decode cX0_canRead 17 = .ok (.invokevirtual 182, 3) := dk_182 0 182 (dk_at dksX0_canRead_0 17 rfl rfl)
theorem dX0_canRead_20 : decode cX0_canRead 20 = .ok (.ifCond .ne 7, 3) := dk_154 0 7 (dk_at dksX0_canRead_0 20 rfl rfl)
theorem dX0_canRead_23 : decode cX0_canRead 23 = .ok (.iconst 1, 1) := dk_4 (dk_at dksX0_canRead_0 23 rfl rfl)
theorem dX0_canRead_24 : decode cX0_canRead 24 = .ok (.goto 4, 3) := dk_167 0 4 (dk_at dksX0_canRead_1 0 rfl rfl)
theorem dX0_canRead_27 : decode cX0_canRead 27 = .ok (.iconst 0, 1) := dk_3 (dk_at dksX0_canRead_1 3 rfl rfl)
theorem dX0_canRead_28 : decode cX0_canRead 28 = .ok (.ireturn, 1) := dk_172 (dk_at dksX0_canRead_1 4 rfl rfl)
abbrev cX0_isInTime : ByteArray := prog_1_method_42_code
def yX0_isInTime : MethodName := ⟨RX0, "isInTime", "(I)Z"⟩
def dkwX0_isInTime_1 : List UInt8 := [167, 0, 4, 3, 172]
abbrev dktX0_isInTime_1 : List UInt8 := dkwX0_isInTime_1 ++ []
def dkwX0_isInTime_0 : List UInt8 := [42, 182, 0, 135, 180, 0, 204, 42, 180, 0, 10, 180, 0, 159, 27, 46, 96, 17, 3, 231, 163, 0, 7, 4]
abbrev dktX0_isInTime_0 : List UInt8 := dkwX0_isInTime_0 ++ dktX0_isInTime_1
theorem dksX0_isInTime_0 : cX0_isInTime.data.toList.drop 0 = dktX0_isInTime_0 := by decide +kernel
theorem dksX0_isInTime_1 : cX0_isInTime.data.toList.drop 24 = dktX0_isInTime_1 := dk_seg dksX0_isInTime_0 24 rfl rfl
theorem dX0_isInTime_0 : decode cX0_isInTime 0 = .ok (.aload_n 0, 1) := dk_42 (dk_at dksX0_isInTime_0 0 rfl rfl)
theorem dX0_isInTime_1 : decode cX0_isInTime 1 = .ok (.invokevirtual 135, 3) := dk_182 0 135 (dk_at dksX0_isInTime_0 1 rfl rfl)
theorem dX0_isInTime_4 : decode cX0_isInTime 4 = .ok (.getfield 204, 3) := dk_180 0 204 (dk_at dksX0_isInTime_0 4 rfl rfl)
theorem dX0_isInTime_7 : decode cX0_isInTime 7 = .ok (.aload_n 0, 1) := dk_42 (dk_at dksX0_isInTime_0 7 rfl rfl)
theorem dX0_isInTime_8 : decode cX0_isInTime 8 = .ok (.getfield 10, 3) := dk_180 0 10 (dk_at dksX0_isInTime_0 8 rfl rfl)
theorem dX0_isInTime_11 : decode cX0_isInTime 11 = .ok (.getfield 159, 3) := dk_180 0 159 (dk_at dksX0_isInTime_0 11 rfl rfl)
theorem dX0_isInTime_14 : decode cX0_isInTime 14 = .ok (.iload_n 1, 1) := dk_27 (dk_at dksX0_isInTime_0 14 rfl rfl)
theorem dX0_isInTime_15 : decode cX0_isInTime 15 = .ok (.iaload, 1) := dk_46 (dk_at dksX0_isInTime_0 15 rfl rfl)
theorem dX0_isInTime_16 : decode cX0_isInTime 16 = .ok (.iadd, 1) := dk_96 (dk_at dksX0_isInTime_0 16 rfl rfl)
theorem dX0_isInTime_17 : decode cX0_isInTime 17 = .ok (.sipush 999, 3) := dk_17 3 231 (dk_at dksX0_isInTime_0 17 rfl rfl)
theorem dX0_isInTime_20 : decode cX0_isInTime 20 = .ok (.if_icmp .gt 7, 3) := dk_163 0 7 (dk_at dksX0_isInTime_0 20 rfl rfl)
theorem dX0_isInTime_23 : decode cX0_isInTime 23 = .ok (.iconst 1, 1) := dk_4 (dk_at dksX0_isInTime_0 23 rfl rfl)
theorem dX0_isInTime_24 : decode cX0_isInTime 24 = .ok (.goto 4, 3) := dk_167 0 4 (dk_at dksX0_isInTime_1 0 rfl rfl)
theorem dX0_isInTime_27 : decode cX0_isInTime 27 = .ok (.iconst 0, 1) := dk_3 (dk_at dksX0_isInTime_1 3 rfl rfl)
theorem dX0_isInTime_28 : decode cX0_isInTime 28 = .ok (.ireturn, 1) := dk_172 (dk_at dksX0_isInTime_1 4 rfl rfl)
abbrev cX0_readIt : ByteArray := prog_1_method_41_code
def yX0_readIt : MethodName := ⟨RX0, "readIt", "(I)I"⟩
def dkwX0_readIt_5 : List UInt8 := [96, 181, 0, 204, 28, 172]
abbrev dktX0_readIt_5 : List UInt8 := dkwX0_readIt_5 ++ []
def dkwX0_readIt_4 : List UInt8 := [4, 27, 120, 128, 181, 0, 138, 42, 182, 0, 135, 89, 180, 0, 204, 42, 180, 0, 10, 180, 0, 159, 27, 46]
abbrev dktX0_readIt_4 : List UInt8 := dkwX0_readIt_4 ++ dktX0_readIt_5
def dkwX0_readIt_3 : List UInt8 := [180, 0, 76, 29, 46, 96, 184, 0, 100, 79, 132, 3, 1, 167, 255, 214, 42, 182, 0, 135, 89, 180, 0, 138]
abbrev dktX0_readIt_3 : List UInt8 := dkwX0_readIt_3 ++ dktX0_readIt_4
def dkwX0_readIt_2 : List UInt8 := [162, 0, 40, 42, 182, 0, 135, 180, 0, 188, 29, 17, 3, 231, 42, 182, 0, 135, 180, 0, 188, 29, 46, 42]
abbrev dktX0_readIt_2 : List UInt8 := dkwX0_readIt_2 ++ dktX0_readIt_3
def dkwX0_readIt_1 : List UInt8 := [28, 42, 180, 0, 76, 29, 46, 96, 61, 132, 3, 1, 167, 255, 224, 3, 62, 29, 42, 182, 0, 132]
abbrev dktX0_readIt_1 : List UInt8 := dkwX0_readIt_1 ++ dktX0_readIt_2
def dkwX0_readIt_0 : List UInt8 := [3, 61, 3, 62, 29, 42, 182, 0, 132, 162, 0, 30, 42, 180, 0, 76, 29, 42, 29, 27, 182, 0, 197, 79]
abbrev dktX0_readIt_0 : List UInt8 := dkwX0_readIt_0 ++ dktX0_readIt_1
theorem dksX0_readIt_0 : cX0_readIt.data.toList.drop 0 = dktX0_readIt_0 := by decide +kernel
theorem dksX0_readIt_1 : cX0_readIt.data.toList.drop 24 = dktX0_readIt_1 := dk_seg dksX0_readIt_0 24 rfl rfl
theorem dksX0_readIt_2 : cX0_readIt.data.toList.drop 46 = dktX0_readIt_2 := dk_seg dksX0_readIt_1 22 rfl rfl
theorem dksX0_readIt_3 : cX0_readIt.data.toList.drop 70 = dktX0_readIt_3 := dk_seg dksX0_readIt_2 24 rfl rfl
theorem dksX0_readIt_4 : cX0_readIt.data.toList.drop 94 = dktX0_readIt_4 := dk_seg dksX0_readIt_3 24 rfl rfl
theorem dksX0_readIt_5 : cX0_readIt.data.toList.drop 118 = dktX0_readIt_5 := dk_seg dksX0_readIt_4 24 rfl rfl
theorem dX0_readIt_0 : decode cX0_readIt 0 = .ok (.iconst 0, 1) := dk_3 (dk_at dksX0_readIt_0 0 rfl rfl)
theorem dX0_readIt_1 : decode cX0_readIt 1 = .ok (.istore_n 2, 1) := dk_61 (dk_at dksX0_readIt_0 1 rfl rfl)
theorem dX0_readIt_2 : decode cX0_readIt 2 = .ok (.iconst 0, 1) := dk_3 (dk_at dksX0_readIt_0 2 rfl rfl)
theorem dX0_readIt_3 : decode cX0_readIt 3 = .ok (.istore_n 3, 1) := dk_62 (dk_at dksX0_readIt_0 3 rfl rfl)
theorem dX0_readIt_4 : decode cX0_readIt 4 = .ok (.iload_n 3, 1) := dk_29 (dk_at dksX0_readIt_0 4 rfl rfl)
theorem dX0_readIt_5 : decode cX0_readIt 5 = .ok (.aload_n 0, 1) := dk_42 (dk_at dksX0_readIt_0 5 rfl rfl)
theorem dX0_readIt_6 : decode cX0_readIt 6 = .ok (.invokevirtual 132, 3) := dk_182 0 132 (dk_at dksX0_readIt_0 6 rfl rfl)
theorem dX0_readIt_9 : decode cX0_readIt 9 = .ok (.if_icmp .ge 30, 3) := dk_162 0 30 (dk_at dksX0_readIt_0 9 rfl rfl)
theorem dX0_readIt_12 : decode cX0_readIt 12 = .ok (.aload_n 0, 1) := dk_42 (dk_at dksX0_readIt_0 12 rfl rfl)
theorem dX0_readIt_13 : decode cX0_readIt 13 = .ok (.getfield 76, 3) := dk_180 0 76 (dk_at dksX0_readIt_0 13 rfl rfl)
theorem dX0_readIt_16 : decode cX0_readIt 16 = .ok (.iload_n 3, 1) := dk_29 (dk_at dksX0_readIt_0 16 rfl rfl)
theorem dX0_readIt_17 : decode cX0_readIt 17 = .ok (.aload_n 0, 1) := dk_42 (dk_at dksX0_readIt_0 17 rfl rfl)
theorem dX0_readIt_18 : decode cX0_readIt 18 = .ok (.iload_n 3, 1) := dk_29 (dk_at dksX0_readIt_0 18 rfl rfl)
theorem dX0_readIt_19 : decode cX0_readIt 19 = .ok (.iload_n 1, 1) := dk_27 (dk_at dksX0_readIt_0 19 rfl rfl)
theorem dX0_readIt_20 : decode cX0_readIt 20 = .ok (.invokevirtual 197, 3) := dk_182 0 197 (dk_at dksX0_readIt_0 20 rfl rfl)
theorem dX0_readIt_23 : decode cX0_readIt 23 = .ok (.iastore, 1) := dk_79 (dk_at dksX0_readIt_0 23 rfl rfl)
theorem dX0_readIt_24 : decode cX0_readIt 24 = .ok (.iload_n 2, 1) := dk_28 (dk_at dksX0_readIt_1 0 rfl rfl)
theorem dX0_readIt_25 : decode cX0_readIt 25 = .ok (.aload_n 0, 1) := dk_42 (dk_at dksX0_readIt_1 1 rfl rfl)
theorem dX0_readIt_26 : decode cX0_readIt 26 = .ok (.getfield 76, 3) := dk_180 0 76 (dk_at dksX0_readIt_1 2 rfl rfl)
theorem dX0_readIt_29 : decode cX0_readIt 29 = .ok (.iload_n 3, 1) := dk_29 (dk_at dksX0_readIt_1 5 rfl rfl)
theorem dX0_readIt_30 : decode cX0_readIt 30 = .ok (.iaload, 1) := dk_46 (dk_at dksX0_readIt_1 6 rfl rfl)
theorem dX0_readIt_31 : decode cX0_readIt 31 = .ok (.iadd, 1) := dk_96 (dk_at dksX0_readIt_1 7 rfl rfl)
theorem dX0_readIt_32 : decode cX0_readIt 32 = .ok (.istore_n 2, 1) := dk_61 (dk_at dksX0_readIt_1 8 rfl rfl)
theorem dX0_readIt_33 : decode cX0_readIt 33 = .ok (.iinc 3 1, 3) := dk_132 3 1 (dk_at dksX0_readIt_1 9 rfl rfl)
theorem dX0_readIt_36 : decode cX0_readIt 36 = .ok (.goto (-32), 3) := dk_167 255 224 (dk_at dksX0_readIt_1 12 rfl rfl)
theorem dX0_readIt_39 : decode cX0_readIt 39 = .ok (.iconst 0, 1) := dk_3 (dk_at dksX0_readIt_1 15 rfl rfl)
theorem dX0_readIt_40 : decode cX0_readIt 40 = .ok (.istore_n 3, 1) := dk_62 (dk_at dksX0_readIt_1 16 rfl rfl)
theorem dX0_readIt_41 : decode cX0_readIt 41 = .ok (.iload_n 3, 1) := dk_29 (dk_at dksX0_readIt_1 17 rfl rfl)
theorem dX0_readIt_42 : decode cX0_readIt 42 = .ok (.aload_n 0, 1) := dk_42 (dk_at dksX0_readIt_1 18 rfl rfl)
theorem dX0_readIt_43 : decode cX0_readIt 43 = .ok (.invokevirtual 132, 3) := dk_182 0 132 (dk_at dksX0_readIt_1 19 rfl rfl)
theorem dX0_readIt_46 : decode cX0_readIt 46 = .ok (.if_icmp .ge 40, 3) := dk_162 0 40 (dk_at dksX0_readIt_2 0 rfl rfl)
theorem dX0_readIt_49 : decode cX0_readIt 49 = .ok (.aload_n 0, 1) := dk_42 (dk_at dksX0_readIt_2 3 rfl rfl)
theorem dX0_readIt_50 : decode cX0_readIt 50 = .ok (.invokevirtual 135, 3) := dk_182 0 135 (dk_at dksX0_readIt_2 4 rfl rfl)
theorem dX0_readIt_53 : decode cX0_readIt 53 = .ok (.getfield 188, 3) := dk_180 0 188 (dk_at dksX0_readIt_2 7 rfl rfl)
theorem dX0_readIt_56 : decode cX0_readIt 56 = .ok (.iload_n 3, 1) := dk_29 (dk_at dksX0_readIt_2 10 rfl rfl)
theorem dX0_readIt_57 : decode cX0_readIt 57 = .ok (.sipush 999, 3) := dk_17 3 231 (dk_at dksX0_readIt_2 11 rfl rfl)
theorem dX0_readIt_60 : decode cX0_readIt 60 = .ok (.aload_n 0, 1) := dk_42 (dk_at dksX0_readIt_2 14 rfl rfl)
theorem dX0_readIt_61 : decode cX0_readIt 61 = .ok (.invokevirtual 135, 3) := dk_182 0 135 (dk_at dksX0_readIt_2 15 rfl rfl)
theorem dX0_readIt_64 : decode cX0_readIt 64 = .ok (.getfield 188, 3) := dk_180 0 188 (dk_at dksX0_readIt_2 18 rfl rfl)
theorem dX0_readIt_67 : decode cX0_readIt 67 = .ok (.iload_n 3, 1) := dk_29 (dk_at dksX0_readIt_2 21 rfl rfl)
theorem dX0_readIt_68 : decode cX0_readIt 68 = .ok (.iaload, 1) := dk_46 (dk_at dksX0_readIt_2 22 rfl rfl)
theorem dX0_readIt_69 : decode cX0_readIt 69 = .ok (.aload_n 0, 1) := dk_42 (dk_at dksX0_readIt_2 23 rfl rfl)
theorem dX0_readIt_70 : decode cX0_readIt 70 = .ok (.getfield 76, 3) := dk_180 0 76 (dk_at dksX0_readIt_3 0 rfl rfl)
theorem dX0_readIt_73 : decode cX0_readIt 73 = .ok (.iload_n 3, 1) := dk_29 (dk_at dksX0_readIt_3 3 rfl rfl)
theorem dX0_readIt_74 : decode cX0_readIt 74 = .ok (.iaload, 1) := dk_46 (dk_at dksX0_readIt_3 4 rfl rfl)
theorem dX0_readIt_75 : decode cX0_readIt 75 = .ok (.iadd, 1) := dk_96 (dk_at dksX0_readIt_3 5 rfl rfl)
theorem dX0_readIt_76 : decode cX0_readIt 76 = .ok (.invokestatic 100, 3) := dk_184 0 100 (dk_at dksX0_readIt_3 6 rfl rfl)
theorem dX0_readIt_79 : decode cX0_readIt 79 = .ok (.iastore, 1) := dk_79 (dk_at dksX0_readIt_3 9 rfl rfl)
theorem dX0_readIt_80 : decode cX0_readIt 80 = .ok (.iinc 3 1, 3) := dk_132 3 1 (dk_at dksX0_readIt_3 10 rfl rfl)
theorem dX0_readIt_83 : decode cX0_readIt 83 = .ok (.goto (-42), 3) := dk_167 255 214 (dk_at dksX0_readIt_3 13 rfl rfl)
theorem dX0_readIt_86 : decode cX0_readIt 86 = .ok (.aload_n 0, 1) := dk_42 (dk_at dksX0_readIt_3 16 rfl rfl)
theorem dX0_readIt_87 : decode cX0_readIt 87 = .ok (.invokevirtual 135, 3) := dk_182 0 135 (dk_at dksX0_readIt_3 17 rfl rfl)
theorem dX0_readIt_90 : decode cX0_readIt 90 = .ok (.dup, 1) := dk_89 (dk_at dksX0_readIt_3 20 rfl rfl)
theorem dX0_readIt_91 : decode cX0_readIt 91 = .ok (.getfield 138, 3) := dk_180 0 138 (dk_at dksX0_readIt_3 21 rfl rfl)
theorem dX0_readIt_94 : decode cX0_readIt 94 = .ok (.iconst 1, 1) := dk_4 (dk_at dksX0_readIt_4 0 rfl rfl)
theorem dX0_readIt_95 : decode cX0_readIt 95 = .ok (.iload_n 1, 1) := dk_27 (dk_at dksX0_readIt_4 1 rfl rfl)
theorem dX0_readIt_96 : decode cX0_readIt 96 = .ok (.ishl, 1) := dk_120 (dk_at dksX0_readIt_4 2 rfl rfl)
theorem dX0_readIt_97 : decode cX0_readIt 97 = .ok (.ior, 1) := dk_128 (dk_at dksX0_readIt_4 3 rfl rfl)
theorem dX0_readIt_98 : decode cX0_readIt 98 = .ok (.putfield 138, 3) := dk_181 0 138 (dk_at dksX0_readIt_4 4 rfl rfl)
theorem dX0_readIt_101 : decode cX0_readIt 101 = .ok (.aload_n 0, 1) := dk_42 (dk_at dksX0_readIt_4 7 rfl rfl)
theorem dX0_readIt_102 : decode cX0_readIt 102 = .ok (.invokevirtual 135, 3) := dk_182 0 135 (dk_at dksX0_readIt_4 8 rfl rfl)
theorem dX0_readIt_105 : decode cX0_readIt 105 = .ok (.dup, 1) := dk_89 (dk_at dksX0_readIt_4 11 rfl rfl)
theorem dX0_readIt_106 : decode cX0_readIt 106 = .ok (.getfield 204, 3) := dk_180 0 204 (dk_at dksX0_readIt_4 12 rfl rfl)
theorem dX0_readIt_109 : decode cX0_readIt 109 = .ok (.aload_n 0, 1) := dk_42 (dk_at dksX0_readIt_4 15 rfl rfl)
theorem dX0_readIt_110 : decode cX0_readIt 110 = .ok (.getfield 10, 3) := dk_180 0 10 (dk_at dksX0_readIt_4 16 rfl rfl)
theorem dX0_readIt_113 : decode cX0_readIt 113 = .ok (.getfield 159, 3) := dk_180 0 159 (dk_at dksX0_readIt_4 19 rfl rfl)
theorem dX0_readIt_116 : decode cX0_readIt 116 = .ok (.iload_n 1, 1) := dk_27 (dk_at dksX0_readIt_4 22 rfl rfl)
theorem dX0_readIt_117 : decode cX0_readIt 117 = .ok (.iaload, 1) := dk_46 (dk_at dksX0_readIt_4 23 rfl rfl)
theorem dX0_readIt_118 : decode cX0_readIt 118 = .ok (.iadd, 1) := dk_96 (dk_at dksX0_readIt_5 0 rfl rfl)
theorem dX0_readIt_119 : decode cX0_readIt 119 = .ok (.putfield 204, 3) := dk_181 0 204 (dk_at dksX0_readIt_5 1 rfl rfl)
theorem dX0_readIt_122 : decode cX0_readIt 122 = .ok (.iload_n 2, 1) := dk_28 (dk_at dksX0_readIt_5 4 rfl rfl)
theorem dX0_readIt_123 : decode cX0_readIt 123 = .ok (.ireturn, 1) := dk_172 (dk_at dksX0_readIt_5 5 rfl rfl)
abbrev cX0_lose : ByteArray := prog_1_method_47_code
def yX0_lose : MethodName := ⟨RX0, "lose", "(I)I"⟩
def dkwX0_lose_0 : List UInt8 := [42, 42, 27, 182, 1, 59, 182, 0, 112, 172]
abbrev dktX0_lose_0 : List UInt8 := dkwX0_lose_0 ++ []
theorem dksX0_lose_0 : cX0_lose.data.toList.drop 0 = dktX0_lose_0 := by decide +kernel
theorem dX0_lose_0 : decode cX0_lose 0 = .ok (.aload_n 0, 1) := dk_42 (dk_at dksX0_lose_0 0 rfl rfl)
theorem dX0_lose_1 : decode cX0_lose 1 = .ok (.aload_n 0, 1) := dk_42 (dk_at dksX0_lose_0 1 rfl rfl)
theorem dX0_lose_2 : decode cX0_lose 2 = .ok (.iload_n 1, 1) := dk_27 (dk_at dksX0_lose_0 2 rfl rfl)
theorem dX0_lose_3 : decode cX0_lose 3 = .ok (.invokevirtual 315, 3) := dk_182 1 59 (dk_at dksX0_lose_0 3 rfl rfl)
theorem dX0_lose_6 : decode cX0_lose 6 = .ok (.invokevirtual 112, 3) := dk_182 0 112 (dk_at dksX0_lose_0 6 rfl rfl)
theorem dX0_lose_9 : decode cX0_lose 9 = .ok (.ireturn, 1) := dk_172 (dk_at dksX0_lose_0 9 rfl rfl)
abbrev cX0_loseNow : ByteArray := prog_1_method_46_code
def yX0_loseNow : MethodName := ⟨RX0, "loseNow", "(I)I"⟩
def dkwX0_loseNow_2 : List UInt8 := [126, 181, 0, 138, 42, 182, 0, 135, 180, 0, 138, 184, 1, 21, 172]
abbrev dktX0_loseNow_2 : List UInt8 := dkwX0_loseNow_2 ++ []
def dkwX0_loseNow_1 : List UInt8 := [180, 0, 23, 42, 182, 0, 135, 4, 182, 1, 46, 42, 182, 0, 135, 89, 180, 0, 138, 4, 27, 120, 2, 130]
abbrev dktX0_loseNow_1 : List UInt8 := dkwX0_loseNow_1 ++ dktX0_loseNow_2
def dkwX0_loseNow_0 : List UInt8 := [42, 27, 182, 0, 172, 154, 0, 6, 16, 254, 172, 42, 27, 182, 1, 56, 154, 0, 6, 16, 253, 172, 42]
abbrev dktX0_loseNow_0 : List UInt8 := dkwX0_loseNow_0 ++ dktX0_loseNow_1
theorem dksX0_loseNow_0 : cX0_loseNow.data.toList.drop 0 = dktX0_loseNow_0 := by decide +kernel
theorem dksX0_loseNow_1 : cX0_loseNow.data.toList.drop 23 = dktX0_loseNow_1 := dk_seg dksX0_loseNow_0 23 rfl rfl
theorem dksX0_loseNow_2 : cX0_loseNow.data.toList.drop 47 = dktX0_loseNow_2 := dk_seg dksX0_loseNow_1 24 rfl rfl
theorem dX0_loseNow_0 : decode cX0_loseNow 0 = .ok (.aload_n 0, 1) := dk_42 (dk_at dksX0_loseNow_0 0 rfl rfl)
theorem dX0_loseNow_1 : decode cX0_loseNow 1 = .ok (.iload_n 1, 1) := dk_27 (dk_at dksX0_loseNow_0 1 rfl rfl)
theorem dX0_loseNow_2 : decode cX0_loseNow 2 = .ok (.invokevirtual 172, 3) := dk_182 0 172 (dk_at dksX0_loseNow_0 2 rfl rfl)
theorem dX0_loseNow_5 : decode cX0_loseNow 5 = .ok (.ifCond .ne 6, 3) := dk_154 0 6 (dk_at dksX0_loseNow_0 5 rfl rfl)
theorem dX0_loseNow_8 : decode cX0_loseNow 8 = .ok (.bipush (-2), 2) := dk_16 254 (dk_at dksX0_loseNow_0 8 rfl rfl)
theorem dX0_loseNow_10 : decode cX0_loseNow 10 = .ok (.ireturn, 1) := dk_172 (dk_at dksX0_loseNow_0 10 rfl rfl)
theorem dX0_loseNow_11 : decode cX0_loseNow 11 = .ok (.aload_n 0, 1) := dk_42 (dk_at dksX0_loseNow_0 11 rfl rfl)
theorem dX0_loseNow_12 : decode cX0_loseNow 12 = .ok (.iload_n 1, 1) := dk_27 (dk_at dksX0_loseNow_0 12 rfl rfl)
theorem dX0_loseNow_13 : decode cX0_loseNow 13 = .ok (.invokevirtual 312, 3) := dk_182 1 56 (dk_at dksX0_loseNow_0 13 rfl rfl)
theorem dX0_loseNow_16 : decode cX0_loseNow 16 = .ok (.ifCond .ne 6, 3) := dk_154 0 6 (dk_at dksX0_loseNow_0 16 rfl rfl)
theorem dX0_loseNow_19 : decode cX0_loseNow 19 = .ok (.bipush (-3), 2) := dk_16 253 (dk_at dksX0_loseNow_0 19 rfl rfl)
theorem dX0_loseNow_21 : decode cX0_loseNow 21 = .ok (.ireturn, 1) := dk_172 (dk_at dksX0_loseNow_0 21 rfl rfl)
theorem dX0_loseNow_22 : decode cX0_loseNow 22 = .ok (.aload_n 0, 1) := dk_42 (dk_at dksX0_loseNow_0 22 rfl rfl)
theorem dX0_loseNow_23 : decode cX0_loseNow 23 = .ok (.getfield 23, 3) := dk_180 0 23 (dk_at dksX0_loseNow_1 0 rfl rfl)
theorem dX0_loseNow_26 : decode cX0_loseNow 26 = .ok (.aload_n 0, 1) := dk_42 (dk_at dksX0_loseNow_1 3 rfl rfl)
theorem dX0_loseNow_27 : decode cX0_loseNow 27 = .ok (.invokevirtual 135, 3) := dk_182 0 135 (dk_at dksX0_loseNow_1 4 rfl rfl)
theorem dX0_loseNow_30 : decode cX0_loseNow 30 = .ok (.iconst 1, 1) := dk_4 (dk_at dksX0_loseNow_1 7 rfl rfl)
theorem dX0_loseNow_31 : decode cX0_loseNow 31 = .ok (.invokevirtual 302, 3) := dk_182 1 46 (dk_at dksX0_loseNow_1 8 rfl rfl)
theorem dX0_loseNow_34 : decode cX0_loseNow 34 = .ok (.aload_n 0, 1) := dk_42 (dk_at dksX0_loseNow_1 11 rfl rfl)
theorem dX0_loseNow_35 : decode cX0_loseNow 35 = .ok (.invokevirtual 135, 3) := dk_182 0 135 (dk_at dksX0_loseNow_1 12 rfl rfl)
theorem dX0_loseNow_38 : decode cX0_loseNow 38 = .ok (.dup, 1) := dk_89 (dk_at dksX0_loseNow_1 15 rfl rfl)
theorem dX0_loseNow_39 : decode cX0_loseNow 39 = .ok (.getfield 138, 3) := dk_180 0 138 (dk_at dksX0_loseNow_1 16 rfl rfl)
theorem dX0_loseNow_42 : decode cX0_loseNow 42 = .ok (.iconst 1, 1) := dk_4 (dk_at dksX0_loseNow_1 19 rfl rfl)
theorem dX0_loseNow_43 : decode cX0_loseNow 43 = .ok (.iload_n 1, 1) := dk_27 (dk_at dksX0_loseNow_1 20 rfl rfl)
theorem dX0_loseNow_44 : decode cX0_loseNow 44 = .ok (.ishl, 1) := dk_120 (dk_at dksX0_loseNow_1 21 rfl rfl)
theorem dX0_loseNow_45 : decode cX0_loseNow 45 = .ok (.iconst (-1), 1) := dk_2 (dk_at dksX0_loseNow_1 22 rfl rfl)
theorem dX0_loseNow_46 : decode cX0_loseNow 46 = .ok (.ixor, 1) := dk_130 (dk_at dksX0_loseNow_1 23 rfl rfl)
theorem dX0_loseNow_47 : decode cX0_loseNow 47 = .ok (.iand, 1) := dk_126 (dk_at dksX0_loseNow_2 0 rfl rfl)
theorem dX0_loseNow_48 : decode cX0_loseNow 48 = .ok (.putfield 138, 3) := dk_181 0 138 (dk_at dksX0_loseNow_2 1 rfl rfl)
theorem dX0_loseNow_51 : decode cX0_loseNow 51 = .ok (.aload_n 0, 1) := dk_42 (dk_at dksX0_loseNow_2 4 rfl rfl)
theorem dX0_loseNow_52 : decode cX0_loseNow 52 = .ok (.invokevirtual 135, 3) := dk_182 0 135 (dk_at dksX0_loseNow_2 5 rfl rfl)
theorem dX0_loseNow_55 : decode cX0_loseNow 55 = .ok (.getfield 138, 3) := dk_180 0 138 (dk_at dksX0_loseNow_2 8 rfl rfl)
theorem dX0_loseNow_58 : decode cX0_loseNow 58 = .ok (.invokestatic 277, 3) := dk_184 1 21 (dk_at dksX0_loseNow_2 11 rfl rfl)
theorem dX0_loseNow_61 : decode cX0_loseNow 61 = .ok (.ireturn, 1) := dk_172 (dk_at dksX0_loseNow_2 14 rfl rfl)
abbrev cX0_canLose : ByteArray := prog_1_method_45_code
def yX0_canLose : MethodName := ⟨RX0, "canLose", "(I)Z"⟩
def dkwX0_canLose_2 : List UInt8 := [126, 61, 132, 3, 1, 167, 255, 213, 28, 172]
abbrev dktX0_canLose_2 : List UInt8 := dkwX0_canLose_2 ++ []
def dkwX0_canLose_1 : List UInt8 := [153, 0, 19, 42, 180, 0, 10, 180, 0, 145, 29, 46, 27, 184, 0, 141, 154, 0, 7, 4, 167, 0, 4, 3]
abbrev dktX0_canLose_1 : List UInt8 := dkwX0_canLose_1 ++ dktX0_canLose_2
def dkwX0_canLose_0 : List UInt8 := [42, 27, 182, 0, 176, 61, 3, 62, 29, 42, 182, 0, 125, 162, 0, 41, 28, 42, 29, 182, 0, 176]
abbrev dktX0_canLose_0 : List UInt8 := dkwX0_canLose_0 ++ dktX0_canLose_1
theorem dksX0_canLose_0 : cX0_canLose.data.toList.drop 0 = dktX0_canLose_0 := by decide +kernel
theorem dksX0_canLose_1 : cX0_canLose.data.toList.drop 22 = dktX0_canLose_1 := dk_seg dksX0_canLose_0 22 rfl rfl
theorem dksX0_canLose_2 : cX0_canLose.data.toList.drop 46 = dktX0_canLose_2 := dk_seg dksX0_canLose_1 24 rfl rfl
theorem dX0_canLose_0 : decode cX0_canLose 0 = .ok (.aload_n 0, 1) := dk_42 (dk_at dksX0_canLose_0 0 rfl rfl)
theorem dX0_canLose_1 : decode cX0_canLose 1 = .ok (.iload_n 1, 1) := dk_27 (dk_at dksX0_canLose_0 1 rfl rfl)
theorem dX0_canLose_2 : decode cX0_canLose 2 = .ok (.invokevirtual 176, 3) := dk_182 0 176 (dk_at dksX0_canLose_0 2 rfl rfl)
theorem dX0_canLose_5 : decode cX0_canLose 5 = .ok (.istore_n 2, 1) := dk_61 (dk_at dksX0_canLose_0 5 rfl rfl)
theorem dX0_canLose_6 : decode cX0_canLose 6 = .ok (.iconst 0, 1) := dk_3 (dk_at dksX0_canLose_0 6 rfl rfl)
theorem dX0_canLose_7 : decode cX0_canLose 7 = .ok (.istore_n 3, 1) := dk_62 (dk_at dksX0_canLose_0 7 rfl rfl)
theorem dX0_canLose_8 : decode cX0_canLose 8 = .ok (.iload_n 3, 1) := dk_29 (dk_at dksX0_canLose_0 8 rfl rfl)
theorem dX0_canLose_9 : decode cX0_canLose 9 = .ok (.aload_n 0, 1) := dk_42 (dk_at dksX0_canLose_0 9 rfl rfl)
theorem dX0_canLose_10 : decode cX0_canLose 10 = .ok (.invokevirtual 125, 3) := dk_182 0 125 (dk_at dksX0_canLose_0 10 rfl rfl)
theorem dX0_canLose_13 : decode cX0_canLose 13 = .ok (.if_icmp .ge 41, 3) := dk_162 0 41 (dk_at dksX0_canLose_0 13 rfl rfl)
theorem dX0_canLose_16 : decode cX0_canLose 16 = .ok (.iload_n 2, 1) := dk_28 (dk_at dksX0_canLose_0 16 rfl rfl)
theorem dX0_canLose_17 : decode cX0_canLose 17 = .ok (.aload_n 0, 1) := dk_42 (dk_at dksX0_canLose_0 17 rfl rfl)
theorem dX0_canLose_18 : decode cX0_canLose 18 = .ok (.iload_n 3, 1) := dk_29 (dk_at dksX0_canLose_0 18 rfl rfl)
theorem dX0_canLose_19 : decode cX0_canLose 19 = .ok (.invokevirtual 176, 3) := dk_182 0 176 (dk_at dksX0_canLose_0 19 rfl rfl)
theorem dX0_canLose_22 : decode cX0_canLose 22 = .ok (.ifCond .eq 19, 3) := dk_153 0 19 (dk_at dksX0_canLose_1 0 rfl rfl)
theorem dX0_canLose_25 : decode cX0_canLose 25 = .ok (.aload_n 0, 1) := dk_42 (dk_at dksX0_canLose_1 3 rfl rfl)
theorem dX0_canLose_26 : decode cX0_canLose 26 = .ok (.getfield 10, 3) := dk_180 0 10 (dk_at dksX0_canLose_1 4 rfl rfl)
theorem dX0_canLose_29 : decode cX0_canLose 29 = .ok (.getfield 145, 3) := dk_180 0 145 (dk_at dksX0_canLose_1 7 rfl rfl)
theorem dX0_canLose_32 : decode cX0_canLose 32 = .ok (.iload_n 3, 1) := dk_29 (dk_at dksX0_canLose_1 10 rfl rfl)
theorem dX0_canLose_33 : decode cX0_canLose 33 = .ok (.iaload, 1) := dk_46 (dk_at dksX0_canLose_1 11 rfl rfl)
theorem dX0_canLose_34 : decode cX0_canLose 34 = .ok (.iload_n 1, 1) := dk_27 (dk_at dksX0_canLose_1 12 rfl rfl)
theorem dX0_canLose_35 : decode cX0_canLose 35 = .ok (.invokestatic 141, 3) := dk_184 0 141 (dk_at dksX0_canLose_1 13 rfl rfl)
theorem dX0_canLose_38 : decode cX0_canLose 38 = .ok (.ifCond .ne 7, 3) := dk_154 0 7 (dk_at dksX0_canLose_1 16 rfl rfl)
theorem dX0_canLose_41 : decode cX0_canLose 41 = .ok (.iconst 1, 1) := dk_4 (dk_at dksX0_canLose_1 19 rfl rfl)
theorem dX0_canLose_42 : decode cX0_canLose 42 = .ok (.goto 4, 3) := dk_167 0 4 (dk_at dksX0_canLose_1 20 rfl rfl)
theorem dX0_canLose_45 : decode cX0_canLose 45 = .ok (.iconst 0, 1) := dk_3 (dk_at dksX0_canLose_1 23 rfl rfl)
theorem dX0_canLose_46 : decode cX0_canLose 46 = .ok (.iand, 1) := dk_126 (dk_at dksX0_canLose_2 0 rfl rfl)
theorem dX0_canLose_47 : decode cX0_canLose 47 = .ok (.istore_n 2, 1) := dk_61 (dk_at dksX0_canLose_2 1 rfl rfl)
theorem dX0_canLose_48 : decode cX0_canLose 48 = .ok (.iinc 3 1, 3) := dk_132 3 1 (dk_at dksX0_canLose_2 2 rfl rfl)
theorem dX0_canLose_51 : decode cX0_canLose 51 = .ok (.goto (-43), 3) := dk_167 255 213 (dk_at dksX0_canLose_2 5 rfl rfl)
theorem dX0_canLose_54 : decode cX0_canLose 54 = .ok (.iload_n 2, 1) := dk_28 (dk_at dksX0_canLose_2 8 rfl rfl)
theorem dX0_canLose_55 : decode cX0_canLose 55 = .ok (.ireturn, 1) := dk_172 (dk_at dksX0_canLose_2 9 rfl rfl)
abbrev cX0_cut : ByteArray := prog_1_method_49_code
def yX0_cut : MethodName := ⟨RX0, "cut", "(I)I"⟩
def dkwX0_cut_0 : List UInt8 := [42, 42, 27, 182, 1, 62, 182, 0, 112, 172]
abbrev dktX0_cut_0 : List UInt8 := dkwX0_cut_0 ++ []
theorem dksX0_cut_0 : cX0_cut.data.toList.drop 0 = dktX0_cut_0 := by decide +kernel
theorem dX0_cut_0 : decode cX0_cut 0 = .ok (.aload_n 0, 1) := dk_42 (dk_at dksX0_cut_0 0 rfl rfl)
theorem dX0_cut_1 : decode cX0_cut 1 = .ok (.aload_n 0, 1) := dk_42 (dk_at dksX0_cut_0 1 rfl rfl)
theorem dX0_cut_2 : decode cX0_cut 2 = .ok (.iload_n 1, 1) := dk_27 (dk_at dksX0_cut_0 2 rfl rfl)
theorem dX0_cut_3 : decode cX0_cut 3 = .ok (.invokevirtual 318, 3) := dk_182 1 62 (dk_at dksX0_cut_0 3 rfl rfl)
theorem dX0_cut_6 : decode cX0_cut 6 = .ok (.invokevirtual 112, 3) := dk_182 0 112 (dk_at dksX0_cut_0 6 rfl rfl)
theorem dX0_cut_9 : decode cX0_cut 9 = .ok (.ireturn, 1) := dk_172 (dk_at dksX0_cut_0 9 rfl rfl)
abbrev cX0_cutNow : ByteArray := prog_1_method_48_code
def yX0_cutNow : MethodName := ⟨RX0, "cutNow", "(I)I"⟩
def dkwX0_cutNow_2 : List UInt8 := [180, 0, 188, 27, 3, 79, 28, 172]
abbrev dktX0_cutNow_2 : List UInt8 := dkwX0_cutNow_2 ++ []
def dkwX0_cutNow_1 : List UInt8 := [154, 0, 6, 16, 253, 172, 42, 180, 0, 23, 42, 182, 0, 135, 5, 182, 1, 46, 42, 182, 0, 135]
abbrev dktX0_cutNow_1 : List UInt8 := dkwX0_cutNow_1 ++ dktX0_cutNow_2
def dkwX0_cutNow_0 : List UInt8 := [42, 27, 182, 0, 191, 154, 0, 6, 16, 254, 172, 42, 182, 0, 135, 180, 0, 188, 27, 46, 61, 28]
abbrev dktX0_cutNow_0 : List UInt8 := dkwX0_cutNow_0 ++ dktX0_cutNow_1
theorem dksX0_cutNow_0 : cX0_cutNow.data.toList.drop 0 = dktX0_cutNow_0 := by decide +kernel
theorem dksX0_cutNow_1 : cX0_cutNow.data.toList.drop 22 = dktX0_cutNow_1 := dk_seg dksX0_cutNow_0 22 rfl rfl
theorem dksX0_cutNow_2 : cX0_cutNow.data.toList.drop 44 = dktX0_cutNow_2 := dk_seg dksX0_cutNow_1 22 rfl rfl
theorem dX0_cutNow_0 : decode cX0_cutNow 0 = .ok (.aload_n 0, 1) := dk_42 (dk_at dksX0_cutNow_0 0 rfl rfl)
theorem dX0_cutNow_1 : decode cX0_cutNow 1 = .ok (.iload_n 1, 1) := dk_27 (dk_at dksX0_cutNow_0 1 rfl rfl)
theorem dX0_cutNow_2 : decode cX0_cutNow 2 = .ok (.invokevirtual 191, 3) := dk_182 0 191 (dk_at dksX0_cutNow_0 2 rfl rfl)
theorem dX0_cutNow_5 : decode cX0_cutNow 5 = .ok (.ifCond .ne 6, 3) := dk_154 0 6 (dk_at dksX0_cutNow_0 5 rfl rfl)
theorem dX0_cutNow_8 : decode cX0_cutNow 8 = .ok (.bipush (-2), 2) := dk_16 254 (dk_at dksX0_cutNow_0 8 rfl rfl)
theorem dX0_cutNow_10 : decode cX0_cutNow 10 = .ok (.ireturn, 1) := dk_172 (dk_at dksX0_cutNow_0 10 rfl rfl)
theorem dX0_cutNow_11 : decode cX0_cutNow 11 = .ok (.aload_n 0, 1) := dk_42 (dk_at dksX0_cutNow_0 11 rfl rfl)
theorem dX0_cutNow_12 : decode cX0_cutNow 12 = .ok (.invokevirtual 135, 3) := dk_182 0 135 (dk_at dksX0_cutNow_0 12 rfl rfl)
theorem dX0_cutNow_15 : decode cX0_cutNow 15 = .ok (.getfield 188, 3) := dk_180 0 188 (dk_at dksX0_cutNow_0 15 rfl rfl)
theorem dX0_cutNow_18 : decode cX0_cutNow 18 = .ok (.iload_n 1, 1) := dk_27 (dk_at dksX0_cutNow_0 18 rfl rfl)
theorem dX0_cutNow_19 : decode cX0_cutNow 19 = .ok (.iaload, 1) := dk_46 (dk_at dksX0_cutNow_0 19 rfl rfl)
theorem dX0_cutNow_20 : decode cX0_cutNow 20 = .ok (.istore_n 2, 1) := dk_61 (dk_at dksX0_cutNow_0 20 rfl rfl)
theorem dX0_cutNow_21 : decode cX0_cutNow 21 = .ok (.iload_n 2, 1) := dk_28 (dk_at dksX0_cutNow_0 21 rfl rfl)
theorem dX0_cutNow_22 : decode cX0_cutNow 22 = .ok (.ifCond .ne 6, 3) := dk_154 0 6 (dk_at dksX0_cutNow_1 0 rfl rfl)
theorem dX0_cutNow_25 : decode cX0_cutNow 25 = .ok (.bipush (-3), 2) := dk_16 253 (dk_at dksX0_cutNow_1 3 rfl rfl)
theorem dX0_cutNow_27 : decode cX0_cutNow 27 = .ok (.ireturn, 1) := dk_172 (dk_at dksX0_cutNow_1 5 rfl rfl)
theorem dX0_cutNow_28 : decode cX0_cutNow 28 = .ok (.aload_n 0, 1) := dk_42 (dk_at dksX0_cutNow_1 6 rfl rfl)
theorem dX0_cutNow_29 : decode cX0_cutNow 29 = .ok (.getfield 23, 3) := dk_180 0 23 (dk_at dksX0_cutNow_1 7 rfl rfl)
theorem dX0_cutNow_32 : decode cX0_cutNow 32 = .ok (.aload_n 0, 1) := dk_42 (dk_at dksX0_cutNow_1 10 rfl rfl)
theorem dX0_cutNow_33 : decode cX0_cutNow 33 = .ok (.invokevirtual 135, 3) := dk_182 0 135 (dk_at dksX0_cutNow_1 11 rfl rfl)
theorem dX0_cutNow_36 : decode cX0_cutNow 36 = .ok (.iconst 2, 1) := dk_5 (dk_at dksX0_cutNow_1 14 rfl rfl)
theorem dX0_cutNow_37 : decode cX0_cutNow 37 = .ok (.invokevirtual 302, 3) := dk_182 1 46 (dk_at dksX0_cutNow_1 15 rfl rfl)
theorem dX0_cutNow_40 : decode cX0_cutNow 40 = .ok (.aload_n 0, 1) := dk_42 (dk_at dksX0_cutNow_1 18 rfl rfl)
theorem dX0_cutNow_41 : decode cX0_cutNow 41 = .ok (.invokevirtual 135, 3) := dk_182 0 135 (dk_at dksX0_cutNow_1 19 rfl rfl)
theorem dX0_cutNow_44 : decode cX0_cutNow 44 = .ok (.getfield 188, 3) := dk_180 0 188 (dk_at dksX0_cutNow_2 0 rfl rfl)
theorem dX0_cutNow_47 : decode cX0_cutNow 47 = .ok (.iload_n 1, 1) := dk_27 (dk_at dksX0_cutNow_2 3 rfl rfl)
theorem dX0_cutNow_48 : decode cX0_cutNow 48 = .ok (.iconst 0, 1) := dk_3 (dk_at dksX0_cutNow_2 4 rfl rfl)
theorem dX0_cutNow_49 : decode cX0_cutNow 49 = .ok (.iastore, 1) := dk_79 (dk_at dksX0_cutNow_2 5 rfl rfl)
theorem dX0_cutNow_50 : decode cX0_cutNow 50 = .ok (.iload_n 2, 1) := dk_28 (dk_at dksX0_cutNow_2 6 rfl rfl)
theorem dX0_cutNow_51 : decode cX0_cutNow 51 = .ok (.ireturn, 1) := dk_172 (dk_at dksX0_cutNow_2 7 rfl rfl)
abbrev cX0_pass : ByteArray := prog_1_method_52_code
def yX0_pass : MethodName := ⟨RX0, "pass", "()I"⟩
def dkwX0_pass_0 : List UInt8 := [42, 42, 182, 1, 71, 182, 0, 112, 172]
abbrev dktX0_pass_0 : List UInt8 := dkwX0_pass_0 ++ []
theorem dksX0_pass_0 : cX0_pass.data.toList.drop 0 = dktX0_pass_0 := by decide +kernel
theorem dX0_pass_0 : decode cX0_pass 0 = .ok (.aload_n 0, 1) := dk_42 (dk_at dksX0_pass_0 0 rfl rfl)
theorem dX0_pass_1 : decode cX0_pass 1 = .ok (.aload_n 0, 1) := dk_42 (dk_at dksX0_pass_0 1 rfl rfl)
theorem dX0_pass_2 : decode cX0_pass 2 = .ok (.invokevirtual 327, 3) := dk_182 1 71 (dk_at dksX0_pass_0 2 rfl rfl)
theorem dX0_pass_5 : decode cX0_pass 5 = .ok (.invokevirtual 112, 3) := dk_182 0 112 (dk_at dksX0_pass_0 5 rfl rfl)
theorem dX0_pass_8 : decode cX0_pass 8 = .ok (.ireturn, 1) := dk_172 (dk_at dksX0_pass_0 8 rfl rfl)
abbrev cX0_passNow : ByteArray := prog_1_method_51_code
def yX0_passNow : MethodName := ⟨RX0, "passNow", "()I"⟩
def dkwX0_passNow_1 : List UInt8 := [6, 182, 1, 46, 42, 182, 1, 68, 172]
abbrev dktX0_passNow_1 : List UInt8 := dkwX0_passNow_1 ++ []
def dkwX0_passNow_0 : List UInt8 := [42, 182, 0, 135, 180, 0, 204, 17, 3, 231, 160, 0, 6, 16, 253, 172, 42, 180, 0, 23, 42, 182, 0, 135]
abbrev dktX0_passNow_0 : List UInt8 := dkwX0_passNow_0 ++ dktX0_passNow_1
theorem dksX0_passNow_0 : cX0_passNow.data.toList.drop 0 = dktX0_passNow_0 := by decide +kernel
theorem dksX0_passNow_1 : cX0_passNow.data.toList.drop 24 = dktX0_passNow_1 := dk_seg dksX0_passNow_0 24 rfl rfl
theorem dX0_passNow_0 : decode cX0_passNow 0 = .ok (.aload_n 0, 1) := dk_42 (dk_at dksX0_passNow_0 0 rfl rfl)
theorem dX0_passNow_1 : decode cX0_passNow 1 = .ok (.invokevirtual 135, 3) := dk_182 0 135 (dk_at dksX0_passNow_0 1 rfl rfl)
theorem dX0_passNow_4 : decode cX0_passNow 4 = .ok (.getfield 204, 3) := dk_180 0 204 (dk_at dksX0_passNow_0 4 rfl rfl)
theorem dX0_passNow_7 : decode cX0_passNow 7 = .ok (.sipush 999, 3) := dk_17 3 231 (dk_at dksX0_passNow_0 7 rfl rfl)
theorem dX0_passNow_10 : decode cX0_passNow 10 = .ok (.if_icmp .ne 6, 3) := dk_160 0 6 (dk_at dksX0_passNow_0 10 rfl rfl)
theorem dX0_passNow_13 : decode cX0_passNow 13 = .ok (.bipush (-3), 2) := dk_16 253 (dk_at dksX0_passNow_0 13 rfl rfl)
theorem dX0_passNow_15 : decode cX0_passNow 15 = .ok (.ireturn, 1) := dk_172 (dk_at dksX0_passNow_0 15 rfl rfl)
theorem dX0_passNow_16 : decode cX0_passNow 16 = .ok (.aload_n 0, 1) := dk_42 (dk_at dksX0_passNow_0 16 rfl rfl)
theorem dX0_passNow_17 : decode cX0_passNow 17 = .ok (.getfield 23, 3) := dk_180 0 23 (dk_at dksX0_passNow_0 17 rfl rfl)
theorem dX0_passNow_20 : decode cX0_passNow 20 = .ok (.aload_n 0, 1) := dk_42 (dk_at dksX0_passNow_0 20 rfl rfl)
theorem dX0_passNow_21 : decode cX0_passNow 21 = .ok (.invokevirtual 135, 3) := dk_182 0 135 (dk_at dksX0_passNow_0 21 rfl rfl)
theorem dX0_passNow_24 : decode cX0_passNow 24 = .ok (.iconst 3, 1) := dk_6 (dk_at dksX0_passNow_1 0 rfl rfl)
theorem dX0_passNow_25 : decode cX0_passNow 25 = .ok (.invokevirtual 302, 3) := dk_182 1 46 (dk_at dksX0_passNow_1 1 rfl rfl)
theorem dX0_passNow_28 : decode cX0_passNow 28 = .ok (.aload_n 0, 1) := dk_42 (dk_at dksX0_passNow_1 4 rfl rfl)
theorem dX0_passNow_29 : decode cX0_passNow 29 = .ok (.invokevirtual 324, 3) := dk_182 1 68 (dk_at dksX0_passNow_1 5 rfl rfl)
theorem dX0_passNow_32 : decode cX0_passNow 32 = .ok (.ireturn, 1) := dk_172 (dk_at dksX0_passNow_1 8 rfl rfl)
abbrev cX0_passIt : ByteArray := prog_1_method_50_code
def yX0_passIt : MethodName := ⟨RX0, "passIt", "()I"⟩
def dkwX0_passIt_4 : List UInt8 := [167, 255, 193, 42, 182, 0, 135, 89, 180, 0, 204, 4, 96, 181, 0, 204, 27, 172]
abbrev dktX0_passIt_4 : List UInt8 := dkwX0_passIt_4 ++ []
def dkwX0_passIt_3 : List UInt8 := [162, 0, 7, 4, 167, 0, 4, 3, 96, 60, 42, 182, 0, 135, 180, 0, 188, 28, 29, 79, 132, 2, 1]
abbrev dktX0_passIt_3 : List UInt8 := dkwX0_passIt_3 ++ dktX0_passIt_4
def dkwX0_passIt_2 : List UInt8 := [28, 46, 42, 180, 0, 76, 28, 46, 100, 184, 1, 65, 62, 27, 29, 42, 182, 0, 135, 180, 0, 188, 28, 46]
abbrev dktX0_passIt_2 : List UInt8 := dkwX0_passIt_2 ++ dktX0_passIt_3
def dkwX0_passIt_1 : List UInt8 := [132, 2, 1, 167, 255, 234, 3, 61, 28, 42, 182, 0, 132, 162, 0, 61, 3, 42, 182, 0, 135, 180, 0, 188]
abbrev dktX0_passIt_1 : List UInt8 := dkwX0_passIt_1 ++ dktX0_passIt_2
def dkwX0_passIt_0 : List UInt8 := [3, 60, 3, 61, 28, 42, 182, 0, 132, 162, 0, 20, 42, 180, 0, 76, 28, 42, 28, 182, 0, 194, 79]
abbrev dktX0_passIt_0 : List UInt8 := dkwX0_passIt_0 ++ dktX0_passIt_1
theorem dksX0_passIt_0 : cX0_passIt.data.toList.drop 0 = dktX0_passIt_0 := by decide +kernel
theorem dksX0_passIt_1 : cX0_passIt.data.toList.drop 23 = dktX0_passIt_1 := dk_seg dksX0_passIt_0 23 rfl rfl
theorem dksX0_passIt_2 : cX0_passIt.data.toList.drop 47 = dktX0_passIt_2 := dk_seg dksX0_passIt_1 24 rfl rfl
theorem dksX0_passIt_3 : cX0_passIt.data.toList.drop 71 = dktX0_passIt_3 := dk_seg dksX0_passIt_2 24 rfl rfl
theorem dksX0_passIt_4 : cX0_passIt.data.toList.drop 94 = dktX0_passIt_4 := dk_seg dksX0_passIt_3 23 rfl rfl
theorem dX0_passIt_0 : decode cX0_passIt 0 = .ok (.iconst 0, 1) := dk_3 (dk_at dksX0_passIt_0 0 rfl rfl)
theorem dX0_passIt_1 : decode cX0_passIt 1 = .ok (.istore_n 1, 1) := dk_60 (dk_at dksX0_passIt_0 1 rfl rfl)
theorem dX0_passIt_2 : decode cX0_passIt 2 = .ok (.iconst 0, 1) := dk_3 (dk_at dksX0_passIt_0 2 rfl rfl)
theorem dX0_passIt_3 : decode cX0_passIt 3 = .ok (.istore_n 2, 1) := dk_61 (dk_at dksX0_passIt_0 3 rfl rfl)
theorem dX0_passIt_4 : decode cX0_passIt 4 = .ok (.iload_n 2, 1) := dk_28 (dk_at dksX0_passIt_0 4 rfl rfl)
theorem dX0_passIt_5 : decode cX0_passIt 5 = .ok (.aload_n 0, 1) := dk_42 (dk_at dksX0_passIt_0 5 rfl rfl)
theorem dX0_passIt_6 : decode cX0_passIt 6 = .ok (.invokevirtual 132, 3) := dk_182 0 132 (dk_at dksX0_passIt_0 6 rfl rfl)
theorem dX0_passIt_9 : decode cX0_passIt 9 = .ok (.if_icmp .ge 20, 3) := dk_162 0 20 (dk_at dksX0_passIt_0 9 rfl rfl)
theorem dX0_passIt_12 : decode cX0_passIt 12 = .ok (.aload_n 0, 1) := dk_42 (dk_at dksX0_passIt_0 12 rfl rfl)
theorem dX0_passIt_13 : decode cX0_passIt 13 = .ok (.getfield 76, 3) := dk_180 0 76 (dk_at dksX0_passIt_0 13 rfl rfl)
theorem dX0_passIt_16 : decode cX0_passIt 16 = .ok (.iload_n 2, 1) := dk_28 (dk_at dksX0_passIt_0 16 rfl rfl)
theorem dX0_passIt_17 : decode cX0_passIt 17 = .ok (.aload_n 0, 1) := dk_42 (dk_at dksX0_passIt_0 17 rfl rfl)
theorem dX0_passIt_18 : decode cX0_passIt 18 = .ok (.iload_n 2, 1) := dk_28 (dk_at dksX0_passIt_0 18 rfl rfl)
theorem dX0_passIt_19 : decode cX0_passIt 19 = .ok (.invokevirtual 194, 3) := dk_182 0 194 (dk_at dksX0_passIt_0 19 rfl rfl)
theorem dX0_passIt_22 : decode cX0_passIt 22 = .ok (.iastore, 1) := dk_79 (dk_at dksX0_passIt_0 22 rfl rfl)
theorem dX0_passIt_23 : decode cX0_passIt 23 = .ok (.iinc 2 1, 3) := dk_132 2 1 (dk_at dksX0_passIt_1 0 rfl rfl)
theorem dX0_passIt_26 : decode cX0_passIt 26 = .ok (.goto (-22), 3) := dk_167 255 234 (dk_at dksX0_passIt_1 3 rfl rfl)
theorem dX0_passIt_29 : decode cX0_passIt 29 = .ok (.iconst 0, 1) := dk_3 (dk_at dksX0_passIt_1 6 rfl rfl)
theorem dX0_passIt_30 : decode cX0_passIt 30 = .ok (.istore_n 2, 1) := dk_61 (dk_at dksX0_passIt_1 7 rfl rfl)
theorem dX0_passIt_31 : decode cX0_passIt 31 = .ok (.iload_n 2, 1) := dk_28 (dk_at dksX0_passIt_1 8 rfl rfl)
theorem dX0_passIt_32 : decode cX0_passIt 32 = .ok (.aload_n 0, 1) := dk_42 (dk_at dksX0_passIt_1 9 rfl rfl)
theorem dX0_passIt_33 : decode cX0_passIt 33 = .ok (.invokevirtual 132, 3) := dk_182 0 132 (dk_at dksX0_passIt_1 10 rfl rfl)
theorem dX0_passIt_36 : decode cX0_passIt 36 = .ok (.if_icmp .ge 61, 3) := dk_162 0 61 (dk_at dksX0_passIt_1 13 rfl rfl)
theorem dX0_passIt_39 : decode cX0_passIt 39 = .ok (.iconst 0, 1) := dk_3 (dk_at dksX0_passIt_1 16 rfl rfl)
theorem dX0_passIt_40 : decode cX0_passIt 40 = .ok (.aload_n 0, 1) := dk_42 (dk_at dksX0_passIt_1 17 rfl rfl)
theorem dX0_passIt_41 : decode cX0_passIt 41 = .ok (.invokevirtual 135, 3) := dk_182 0 135 (dk_at dksX0_passIt_1 18 rfl rfl)
theorem dX0_passIt_44 : decode cX0_passIt 44 = .ok (.getfield 188, 3) := dk_180 0 188 (dk_at dksX0_passIt_1 21 rfl rfl)
theorem dX0_passIt_47 : decode cX0_passIt 47 = .ok (.iload_n 2, 1) := dk_28 (dk_at dksX0_passIt_2 0 rfl rfl)
theorem dX0_passIt_48 : decode cX0_passIt 48 = .ok (.iaload, 1) := dk_46 (dk_at dksX0_passIt_2 1 rfl rfl)
theorem dX0_passIt_49 : decode cX0_passIt 49 = .ok (.aload_n 0, 1) := dk_42 (dk_at dksX0_passIt_2 2 rfl rfl)
theorem dX0_passIt_50 : decode cX0_passIt 50 = .ok (.getfield 76, 3) := dk_180 0 76 (dk_at dksX0_passIt_2 3 rfl rfl)
theorem dX0_passIt_53 : decode cX0_passIt 53 = .ok (.iload_n 2, 1) := dk_28 (dk_at dksX0_passIt_2 6 rfl rfl)
theorem dX0_passIt_54 : decode cX0_passIt 54 = .ok (.iaload, 1) := dk_46 (dk_at dksX0_passIt_2 7 rfl rfl)
theorem dX0_passIt_55 : decode cX0_passIt 55 = .ok (.isub, 1) := dk_100 (dk_at dksX0_passIt_2 8 rfl rfl)
theorem dX0_passIt_56 : decode cX0_passIt 56 = .ok (.invokestatic 321, 3) := dk_184 1 65 (dk_at dksX0_passIt_2 9 rfl rfl)
theorem dX0_passIt_59 : decode cX0_passIt 59 = .ok (.istore_n 3, 1) := dk_62 (dk_at dksX0_passIt_2 12 rfl rfl)
theorem dX0_passIt_60 : decode cX0_passIt 60 = .ok (.iload_n 1, 1) := dk_27 (dk_at dksX0_passIt_2 13 rfl rfl)
theorem dX0_passIt_61 : decode cX0_passIt 61 = .ok (.iload_n 3, 1) := dk_29 (dk_at dksX0_passIt_2 14 rfl rfl)
theorem dX0_passIt_62 : decode cX0_passIt 62 = .ok (.aload_n 0, 1) := dk_42 (dk_at dksX0_passIt_2 15 rfl rfl)
theorem dX0_passIt_63 : decode cX0_passIt 63 = .ok (.invokevirtual 135, 3) := dk_182 0 135 (dk_at dksX0_passIt_2 16 rfl rfl)
theorem dX0_passIt_66 : decode cX0_passIt 66 = .ok (.getfield 188, 3) := dk_180 0 188 (dk_at dksX0_passIt_2 19 rfl rfl)
theorem dX0_passIt_69 : decode cX0_passIt 69 = .ok (.iload_n 2, 1) := dk_28 (dk_at dksX0_passIt_2 22 rfl rfl)
theorem dX0_passIt_70 : decode cX0_passIt 70 = .ok (.iaload, 1) := dk_46 (dk_at dksX0_passIt_2 23 rfl rfl)
theorem dX0_passIt_71 : decode cX0_passIt 71 = .ok (.if_icmp .ge 7, 3) := dk_162 0 7 (dk_at dksX0_passIt_3 0 rfl rfl)
theorem dX0_passIt_74 : decode cX0_passIt 74 = .ok (.iconst 1, 1) := dk_4 (dk_at dksX0_passIt_3 3 rfl rfl)
theorem dX0_passIt_75 : decode cX0_passIt 75 = .ok (.goto 4, 3) := dk_167 0 4 (dk_at dksX0_passIt_3 4 rfl rfl)
theorem dX0_passIt_78 : decode cX0_passIt 78 = .ok (.iconst 0, 1) := dk_3 (dk_at dksX0_passIt_3 7 rfl rfl)
theorem dX0_passIt_79 : decode cX0_passIt 79 = .ok (.iadd, 1) := dk_96 (dk_at dksX0_passIt_3 8 rfl rfl)
theorem dX0_passIt_80 : decode cX0_passIt 80 = .ok (.istore_n 1, 1) := dk_60 (dk_at dksX0_passIt_3 9 rfl rfl)
theorem dX0_passIt_81 : decode cX0_passIt 81 = .ok (.aload_n 0, 1) := dk_42 (dk_at dksX0_passIt_3 10 rfl rfl)
theorem dX0_passIt_82 : decode cX0_passIt 82 = .ok (.invokevirtual 135, 3) := dk_182 0 135 (dk_at dksX0_passIt_3 11 rfl rfl)
theorem dX0_passIt_85 : decode cX0_passIt 85 = .ok (.getfield 188, 3) := dk_180 0 188 (dk_at dksX0_passIt_3 14 rfl rfl)
theorem dX0_passIt_88 : decode cX0_passIt 88 = .ok (.iload_n 2, 1) := dk_28 (dk_at dksX0_passIt_3 17 rfl rfl)
theorem dX0_passIt_89 : decode cX0_passIt 89 = .ok (.iload_n 3, 1) := dk_29 (dk_at dksX0_passIt_3 18 rfl rfl)
theorem dX0_passIt_90 : decode cX0_passIt 90 = .ok (.iastore, 1) := dk_79 (dk_at dksX0_passIt_3 19 rfl rfl)
theorem dX0_passIt_91 : decode cX0_passIt 91 = .ok (.iinc 2 1, 3) := dk_132 2 1 (dk_at dksX0_passIt_3 20 rfl rfl)
theorem dX0_passIt_94 : decode cX0_passIt 94 = .ok (.goto (-63), 3) := dk_167 255 193 (dk_at dksX0_passIt_4 0 rfl rfl)
theorem dX0_passIt_97 : decode cX0_passIt 97 = .ok (.aload_n 0, 1) := dk_42 (dk_at dksX0_passIt_4 3 rfl rfl)
theorem dX0_passIt_98 : decode cX0_passIt 98 = .ok (.invokevirtual 135, 3) := dk_182 0 135 (dk_at dksX0_passIt_4 4 rfl rfl)
theorem dX0_passIt_101 : decode cX0_passIt 101 = .ok (.dup, 1) := dk_89 (dk_at dksX0_passIt_4 7 rfl rfl)
theorem dX0_passIt_102 : decode cX0_passIt 102 = .ok (.getfield 204, 3) := dk_180 0 204 (dk_at dksX0_passIt_4 8 rfl rfl)
theorem dX0_passIt_105 : decode cX0_passIt 105 = .ok (.iconst 1, 1) := dk_4 (dk_at dksX0_passIt_4 11 rfl rfl)
theorem dX0_passIt_106 : decode cX0_passIt 106 = .ok (.iadd, 1) := dk_96 (dk_at dksX0_passIt_4 12 rfl rfl)
theorem dX0_passIt_107 : decode cX0_passIt 107 = .ok (.putfield 204, 3) := dk_181 0 204 (dk_at dksX0_passIt_4 13 rfl rfl)
theorem dX0_passIt_110 : decode cX0_passIt 110 = .ok (.iload_n 1, 1) := dk_27 (dk_at dksX0_passIt_4 16 rfl rfl)
theorem dX0_passIt_111 : decode cX0_passIt 111 = .ok (.ireturn, 1) := dk_172 (dk_at dksX0_passIt_4 17 rfl rfl)
abbrev cX0_undo : ByteArray := prog_1_method_53_code
def yX0_undo : MethodName := ⟨RX0, "undo", "()I"⟩
def dkwX0_undo_3 : List UInt8 := [180, 1, 82, 182, 0, 112, 172]
abbrev dktX0_undo_3 : List UInt8 := dkwX0_undo_3 ++ []
def dkwX0_undo_2 : List UInt8 := [180, 0, 109, 50, 182, 1, 78, 87, 42, 42, 180, 0, 23, 180, 1, 74, 42, 180, 0, 23, 180, 0, 109, 50]
abbrev dktX0_undo_2 : List UInt8 := dkwX0_undo_2 ++ dktX0_undo_3
def dkwX0_undo_1 : List UInt8 := [180, 0, 109, 4, 100, 181, 0, 109, 42, 182, 0, 135, 42, 180, 0, 23, 180, 1, 74, 42, 180, 0, 23]
abbrev dktX0_undo_1 : List UInt8 := dkwX0_undo_1 ++ dktX0_undo_2
def dkwX0_undo_0 : List UInt8 := [42, 180, 0, 23, 180, 0, 109, 154, 0, 10, 42, 16, 253, 182, 0, 112, 172, 42, 180, 0, 23, 89]
abbrev dktX0_undo_0 : List UInt8 := dkwX0_undo_0 ++ dktX0_undo_1
theorem dksX0_undo_0 : cX0_undo.data.toList.drop 0 = dktX0_undo_0 := by decide +kernel
theorem dksX0_undo_1 : cX0_undo.data.toList.drop 22 = dktX0_undo_1 := dk_seg dksX0_undo_0 22 rfl rfl
theorem dksX0_undo_2 : cX0_undo.data.toList.drop 45 = dktX0_undo_2 := dk_seg dksX0_undo_1 23 rfl rfl
theorem dksX0_undo_3 : cX0_undo.data.toList.drop 69 = dktX0_undo_3 := dk_seg dksX0_undo_2 24 rfl rfl
theorem dX0_undo_0 : decode cX0_undo 0 = .ok (.aload_n 0, 1) := dk_42 (dk_at dksX0_undo_0 0 rfl rfl)
theorem dX0_undo_1 : decode cX0_undo 1 = .ok (.getfield 23, 3) := dk_180 0 23 (dk_at dksX0_undo_0 1 rfl rfl)
theorem dX0_undo_4 : decode cX0_undo 4 = .ok (.getfield 109, 3) := dk_180 0 109 (dk_at dksX0_undo_0 4 rfl rfl)
theorem dX0_undo_7 : decode cX0_undo 7 = .ok (.ifCond .ne 10, 3) := dk_154 0 10 (dk_at dksX0_undo_0 7 rfl rfl)
theorem dX0_undo_10 : decode cX0_undo 10 = .ok (.aload_n 0, 1) := dk_42 (dk_at dksX0_undo_0 10 rfl rfl)
theorem dX0_undo_11 : decode cX0_undo 11 = .ok (.bipush (-3), 2) := dk_16 253 (dk_at dksX0_undo_0 11 rfl rfl)
theorem dX0_undo_13 : decode cX0_undo 13 = .ok (.invokevirtual 112, 3) := dk_182 0 112 (dk_at dksX0_undo_0 13 rfl rfl)
theorem dX0_undo_16 : decode cX0_undo 16 = .ok (.ireturn, 1) := dk_172 (dk_at dksX0_undo_0 16 rfl rfl)
theorem dX0_undo_17 : decode cX0_undo 17 = .ok (.aload_n 0, 1) := dk_42 (dk_at dksX0_undo_0 17 rfl rfl)
theorem dX0_undo_18 : decode cX0_undo 18 = .ok (.getfield 23, 3) := dk_180 0 23 (dk_at dksX0_undo_0 18 rfl rfl)
theorem dX0_undo_21 : decode cX0_undo 21 = .ok (.dup, 1) := dk_89 (dk_at dksX0_undo_0 21 rfl rfl)
theorem dX0_undo_22 : decode cX0_undo 22 = .ok (.getfield 109, 3) := dk_180 0 109 (dk_at dksX0_undo_1 0 rfl rfl)
theorem dX0_undo_25 : decode cX0_undo 25 = .ok (.iconst 1, 1) := dk_4 (dk_at dksX0_undo_1 3 rfl rfl)
theorem dX0_undo_26 : decode cX0_undo 26 = .ok (.isub, 1) := dk_100 (dk_at dksX0_undo_1 4 rfl rfl)
theorem dX0_undo_27 : decode cX0_undo 27 = .ok (.putfield 109, 3) := dk_181 0 109 (dk_at dksX0_undo_1 5 rfl rfl)
theorem dX0_undo_30 : decode cX0_undo 30 = .ok (.aload_n 0, 1) := dk_42 (dk_at dksX0_undo_1 8 rfl rfl)
theorem dX0_undo_31 : decode cX0_undo 31 = .ok (.invokevirtual 135, 3) := dk_182 0 135 (dk_at dksX0_undo_1 9 rfl rfl)
theorem dX0_undo_34 : decode cX0_undo 34 = .ok (.aload_n 0, 1) := dk_42 (dk_at dksX0_undo_1 12 rfl rfl)
theorem dX0_undo_35 : decode cX0_undo 35 = .ok (.getfield 23, 3) := dk_180 0 23 (dk_at dksX0_undo_1 13 rfl rfl)
theorem dX0_undo_38 : decode cX0_undo 38 = .ok (.getfield 330, 3) := dk_180 1 74 (dk_at dksX0_undo_1 16 rfl rfl)
theorem dX0_undo_41 : decode cX0_undo 41 = .ok (.aload_n 0, 1) := dk_42 (dk_at dksX0_undo_1 19 rfl rfl)
theorem dX0_undo_42 : decode cX0_undo 42 = .ok (.getfield 23, 3) := dk_180 0 23 (dk_at dksX0_undo_1 20 rfl rfl)
theorem dX0_undo_45 : decode cX0_undo 45 = .ok (.getfield 109, 3) := dk_180 0 109 (dk_at dksX0_undo_2 0 rfl rfl)
theorem dX0_undo_48 : decode cX0_undo 48 = .ok (.aaload, 1) := dk_50 (dk_at dksX0_undo_2 3 rfl rfl)
theorem dX0_undo_49 : decode cX0_undo 49 = .ok (.invokevirtual 334, 3) := dk_182 1 78 (dk_at dksX0_undo_2 4 rfl rfl)
theorem dX0_undo_52 : decode cX0_undo 52 = .ok (.pop, 1) := dk_87 (dk_at dksX0_undo_2 7 rfl rfl)
theorem dX0_undo_53 : decode cX0_undo 53 = .ok (.aload_n 0, 1) := dk_42 (dk_at dksX0_undo_2 8 rfl rfl)
theorem dX0_undo_54 : decode cX0_undo 54 = .ok (.aload_n 0, 1) := dk_42 (dk_at dksX0_undo_2 9 rfl rfl)
theorem dX0_undo_55 : decode cX0_undo 55 = .ok (.getfield 23, 3) := dk_180 0 23 (dk_at dksX0_undo_2 10 rfl rfl)
theorem dX0_undo_58 : decode cX0_undo 58 = .ok (.getfield 330, 3) := dk_180 1 74 (dk_at dksX0_undo_2 13 rfl rfl)
theorem dX0_undo_61 : decode cX0_undo 61 = .ok (.aload_n 0, 1) := dk_42 (dk_at dksX0_undo_2 16 rfl rfl)
theorem dX0_undo_62 : decode cX0_undo 62 = .ok (.getfield 23, 3) := dk_180 0 23 (dk_at dksX0_undo_2 17 rfl rfl)
theorem dX0_undo_65 : decode cX0_undo 65 = .ok (.getfield 109, 3) := dk_180 0 109 (dk_at dksX0_undo_2 20 rfl rfl)
theorem dX0_undo_68 : decode cX0_undo 68 = .ok (.aaload, 1) := dk_50 (dk_at dksX0_undo_2 23 rfl rfl)
theorem dX0_undo_69 : decode cX0_undo 69 = .ok (.getfield 338, 3) := dk_180 1 82 (dk_at dksX0_undo_3 0 rfl rfl)
theorem dX0_undo_72 : decode cX0_undo 72 = .ok (.invokevirtual 112, 3) := dk_182 0 112 (dk_at dksX0_undo_3 3 rfl rfl)
theorem dX0_undo_75 : decode cX0_undo 75 = .ok (.ireturn, 1) := dk_172 (dk_at dksX0_undo_3 6 rfl rfl)
abbrev cX0_needs : ByteArray := prog_1_method_55_code
def yX0_needs : MethodName := ⟨RX0, "needs", "(I)I"⟩
def dkwX0_needs_0 : List UInt8 := [42, 27, 182, 0, 172, 153, 0, 11, 42, 27, 182, 1, 85, 167, 0, 4, 2, 172]
abbrev dktX0_needs_0 : List UInt8 := dkwX0_needs_0 ++ []
theorem dksX0_needs_0 : cX0_needs.data.toList.drop 0 = dktX0_needs_0 := by decide +kernel
theorem dX0_needs_0 : decode cX0_needs 0 = .ok (.aload_n 0, 1) := dk_42 (dk_at dksX0_needs_0 0 rfl rfl)
theorem dX0_needs_1 : decode cX0_needs 1 = .ok (.iload_n 1, 1) := dk_27 (dk_at dksX0_needs_0 1 rfl rfl)
theorem dX0_needs_2 : decode cX0_needs 2 = .ok (.invokevirtual 172, 3) := dk_182 0 172 (dk_at dksX0_needs_0 2 rfl rfl)
theorem dX0_needs_5 : decode cX0_needs 5 = .ok (.ifCond .eq 11, 3) := dk_153 0 11 (dk_at dksX0_needs_0 5 rfl rfl)
theorem dX0_needs_8 : decode cX0_needs 8 = .ok (.aload_n 0, 1) := dk_42 (dk_at dksX0_needs_0 8 rfl rfl)
theorem dX0_needs_9 : decode cX0_needs 9 = .ok (.iload_n 1, 1) := dk_27 (dk_at dksX0_needs_0 9 rfl rfl)
theorem dX0_needs_10 : decode cX0_needs 10 = .ok (.invokevirtual 341, 3) := dk_182 1 85 (dk_at dksX0_needs_0 10 rfl rfl)
theorem dX0_needs_13 : decode cX0_needs 13 = .ok (.goto 4, 3) := dk_167 0 4 (dk_at dksX0_needs_0 13 rfl rfl)
theorem dX0_needs_16 : decode cX0_needs 16 = .ok (.iconst (-1), 1) := dk_2 (dk_at dksX0_needs_0 16 rfl rfl)
theorem dX0_needs_17 : decode cX0_needs 17 = .ok (.ireturn, 1) := dk_172 (dk_at dksX0_needs_0 17 rfl rfl)
abbrev cX0_allNeeds : ByteArray := prog_1_method_54_code
def yX0_allNeeds : MethodName := ⟨RX0, "allNeeds", "(I)I"⟩
def dkwX0_allNeeds_2 : List UInt8 := [21, 4, 46, 167, 0, 4, 3, 128, 61, 132, 4, 1, 167, 255, 218, 167, 255, 205, 28, 172]
abbrev dktX0_allNeeds_2 : List UInt8 := dkwX0_allNeeds_2 ++ []
def dkwX0_allNeeds_1 : List UInt8 := [42, 182, 0, 125, 162, 0, 35, 28, 28, 21, 4, 184, 0, 141, 153, 0, 16, 42, 180, 0, 10, 180, 0, 145]
abbrev dktX0_allNeeds_1 : List UInt8 := dkwX0_allNeeds_1 ++ dktX0_allNeeds_2
def dkwX0_allNeeds_0 : List UInt8 := [42, 180, 0, 10, 180, 0, 145, 27, 46, 61, 2, 62, 29, 28, 159, 0, 52, 28, 62, 3, 54, 4, 21, 4]
abbrev dktX0_allNeeds_0 : List UInt8 := dkwX0_allNeeds_0 ++ dktX0_allNeeds_1
theorem dksX0_allNeeds_0 : cX0_allNeeds.data.toList.drop 0 = dktX0_allNeeds_0 := by decide +kernel
theorem dksX0_allNeeds_1 : cX0_allNeeds.data.toList.drop 24 = dktX0_allNeeds_1 := dk_seg dksX0_allNeeds_0 24 rfl rfl
theorem dksX0_allNeeds_2 : cX0_allNeeds.data.toList.drop 48 = dktX0_allNeeds_2 := dk_seg dksX0_allNeeds_1 24 rfl rfl
theorem dX0_allNeeds_0 : decode cX0_allNeeds 0 = .ok (.aload_n 0, 1) := dk_42 (dk_at dksX0_allNeeds_0 0 rfl rfl)
theorem dX0_allNeeds_1 : decode cX0_allNeeds 1 = .ok (.getfield 10, 3) := dk_180 0 10 (dk_at dksX0_allNeeds_0 1 rfl rfl)
theorem dX0_allNeeds_4 : decode cX0_allNeeds 4 = .ok (.getfield 145, 3) := dk_180 0 145 (dk_at dksX0_allNeeds_0 4 rfl rfl)
theorem dX0_allNeeds_7 : decode cX0_allNeeds 7 = .ok (.iload_n 1, 1) := dk_27 (dk_at dksX0_allNeeds_0 7 rfl rfl)
theorem dX0_allNeeds_8 : decode cX0_allNeeds 8 = .ok (.iaload, 1) := dk_46 (dk_at dksX0_allNeeds_0 8 rfl rfl)
theorem dX0_allNeeds_9 : decode cX0_allNeeds 9 = .ok (.istore_n 2, 1) := dk_61 (dk_at dksX0_allNeeds_0 9 rfl rfl)
theorem dX0_allNeeds_10 : decode cX0_allNeeds 10 = .ok (.iconst (-1), 1) := dk_2 (dk_at dksX0_allNeeds_0 10 rfl rfl)
theorem dX0_allNeeds_11 : decode cX0_allNeeds 11 = .ok (.istore_n 3, 1) := dk_62 (dk_at dksX0_allNeeds_0 11 rfl rfl)
theorem dX0_allNeeds_12 : decode cX0_allNeeds 12 = .ok (.iload_n 3, 1) := dk_29 (dk_at dksX0_allNeeds_0 12 rfl rfl)
theorem dX0_allNeeds_13 : decode cX0_allNeeds 13 = .ok (.iload_n 2, 1) := dk_28 (dk_at dksX0_allNeeds_0 13 rfl rfl)
theorem dX0_allNeeds_14 : decode cX0_allNeeds 14 = .ok (.if_icmp .eq 52, 3) := dk_159 0 52 (dk_at dksX0_allNeeds_0 14 rfl rfl)
theorem dX0_allNeeds_17 : decode cX0_allNeeds 17 = .ok (.iload_n 2, 1) := dk_28 (dk_at dksX0_allNeeds_0 17 rfl rfl)
theorem dX0_allNeeds_18 : decode cX0_allNeeds 18 = .ok (.istore_n 3, 1) := dk_62 (dk_at dksX0_allNeeds_0 18 rfl rfl)
theorem dX0_allNeeds_19 : decode cX0_allNeeds 19 = .ok (.iconst 0, 1) := dk_3 (dk_at dksX0_allNeeds_0 19 rfl rfl)
theorem dX0_allNeeds_20 : decode cX0_allNeeds 20 = .ok (.istore 4, 2) := dk_54 4 (dk_at dksX0_allNeeds_0 20 rfl rfl)
theorem dX0_allNeeds_22 : decode cX0_allNeeds 22 = .ok (.iload 4, 2) := dk_21 4 (dk_at dksX0_allNeeds_0 22 rfl rfl)
theorem dX0_allNeeds_24 : decode cX0_allNeeds 24 = .ok (.aload_n 0, 1) := dk_42 (dk_at dksX0_allNeeds_1 0 rfl rfl)
theorem dX0_allNeeds_25 : decode cX0_allNeeds 25 = .ok (.invokevirtual 125, 3) := dk_182 0 125 (dk_at dksX0_allNeeds_1 1 rfl rfl)
theorem dX0_allNeeds_28 : decode cX0_allNeeds 28 = .ok (.if_icmp .ge 35, 3) := dk_162 0 35 (dk_at dksX0_allNeeds_1 4 rfl rfl)
theorem dX0_allNeeds_31 : decode cX0_allNeeds 31 = .ok (.iload_n 2, 1) := dk_28 (dk_at dksX0_allNeeds_1 7 rfl rfl)
theorem dX0_allNeeds_32 : decode cX0_allNeeds 32 = .ok (.iload_n 2, 1) := dk_28 (dk_at dksX0_allNeeds_1 8 rfl rfl)
theorem dX0_allNeeds_33 : decode cX0_allNeeds 33 = .ok (.iload 4, 2) := dk_21 4 (dk_at dksX0_allNeeds_1 9 rfl rfl)
theorem dX0_allNeeds_35 : decode cX0_allNeeds 35 = .ok (.invokestatic 141, 3) := dk_184 0 141 (dk_at dksX0_allNeeds_1 11 rfl rfl)
theorem dX0_allNeeds_38 : decode cX0_allNeeds 38 = .ok (.ifCond .eq 16, 3) := dk_153 0 16 (dk_at dksX0_allNeeds_1 14 rfl rfl)
theorem dX0_allNeeds_41 : decode cX0_allNeeds 41 = .ok (.aload_n 0, 1) := dk_42 (dk_at dksX0_allNeeds_1 17 rfl rfl)
theorem dX0_allNeeds_42 : decode cX0_allNeeds 42 = .ok (.getfield 10, 3) := dk_180 0 10 (dk_at dksX0_allNeeds_1 18 rfl rfl)
theorem dX0_allNeeds_45 : decode cX0_allNeeds 45 = .ok (.getfield 145, 3) := dk_180 0 145 (dk_at dksX0_allNeeds_1 21 rfl rfl)
theorem dX0_allNeeds_48 : decode cX0_allNeeds 48 = .ok (.iload 4, 2) := dk_21 4 (dk_at dksX0_allNeeds_2 0 rfl rfl)
theorem dX0_allNeeds_50 : decode cX0_allNeeds 50 = .ok (.iaload, 1) := dk_46 (dk_at dksX0_allNeeds_2 2 rfl rfl)
theorem dX0_allNeeds_51 : decode cX0_allNeeds 51 = .ok (.goto 4, 3) := dk_167 0 4 (dk_at dksX0_allNeeds_2 3 rfl rfl)
theorem dX0_allNeeds_54 : decode cX0_allNeeds 54 = .ok (.iconst 0, 1) := dk_3 (dk_at dksX0_allNeeds_2 6 rfl rfl)
theorem dX0_allNeeds_55 : decode cX0_allNeeds 55 = .ok (.ior, 1) := dk_128 (dk_at dksX0_allNeeds_2 7 rfl rfl)
theorem dX0_allNeeds_56 : decode cX0_allNeeds 56 = .ok (.istore_n 2, 1) := dk_61 (dk_at dksX0_allNeeds_2 8 rfl rfl)
theorem dX0_allNeeds_57 : decode cX0_allNeeds 57 = .ok (.iinc 4 1, 3) := dk_132 4 1 (dk_at dksX0_allNeeds_2 9 rfl rfl)
theorem dX0_allNeeds_60 : decode cX0_allNeeds 60 = .ok (.goto (-38), 3) := dk_167 255 218 (dk_at dksX0_allNeeds_2 12 rfl rfl)
theorem dX0_allNeeds_63 : decode cX0_allNeeds 63 = .ok (.goto (-51), 3) := dk_167 255 205 (dk_at dksX0_allNeeds_2 15 rfl rfl)
theorem dX0_allNeeds_66 : decode cX0_allNeeds 66 = .ok (.iload_n 2, 1) := dk_28 (dk_at dksX0_allNeeds_2 18 rfl rfl)
theorem dX0_allNeeds_67 : decode cX0_allNeeds 67 = .ok (.ireturn, 1) := dk_172 (dk_at dksX0_allNeeds_2 19 rfl rfl)
abbrev cX0_never : ByteArray := prog_1_method_58_code
def yX0_never : MethodName := ⟨RX0, "never", "()I"⟩
def dkwX0_never_0 : List UInt8 := [42, 182, 1, 88, 42, 182, 1, 91, 2, 130, 126, 172]
abbrev dktX0_never_0 : List UInt8 := dkwX0_never_0 ++ []
theorem dksX0_never_0 : cX0_never.data.toList.drop 0 = dktX0_never_0 := by decide +kernel
theorem dX0_never_0 : decode cX0_never 0 = .ok (.aload_n 0, 1) := dk_42 (dk_at dksX0_never_0 0 rfl rfl)
theorem dX0_never_1 : decode cX0_never 1 = .ok (.invokevirtual 344, 3) := dk_182 1 88 (dk_at dksX0_never_0 1 rfl rfl)
theorem dX0_never_4 : decode cX0_never 4 = .ok (.aload_n 0, 1) := dk_42 (dk_at dksX0_never_0 4 rfl rfl)
theorem dX0_never_5 : decode cX0_never 5 = .ok (.invokevirtual 347, 3) := dk_182 1 91 (dk_at dksX0_never_0 5 rfl rfl)
theorem dX0_never_8 : decode cX0_never 8 = .ok (.iconst (-1), 1) := dk_2 (dk_at dksX0_never_0 8 rfl rfl)
theorem dX0_never_9 : decode cX0_never 9 = .ok (.ixor, 1) := dk_130 (dk_at dksX0_never_0 9 rfl rfl)
theorem dX0_never_10 : decode cX0_never 10 = .ok (.iand, 1) := dk_126 (dk_at dksX0_never_0 10 rfl rfl)
theorem dX0_never_11 : decode cX0_never 11 = .ok (.ireturn, 1) := dk_172 (dk_at dksX0_never_0 11 rfl rfl)
abbrev cX0_all : ByteArray := prog_1_method_56_code
def yX0_all : MethodName := ⟨RX0, "all", "()I"⟩
def dkwX0_all_0 : List UInt8 := [4, 42, 182, 0, 125, 120, 4, 100, 172]
abbrev dktX0_all_0 : List UInt8 := dkwX0_all_0 ++ []
theorem dksX0_all_0 : cX0_all.data.toList.drop 0 = dktX0_all_0 := by decide +kernel
theorem dX0_all_0 : decode cX0_all 0 = .ok (.iconst 1, 1) := dk_4 (dk_at dksX0_all_0 0 rfl rfl)
theorem dX0_all_1 : decode cX0_all 1 = .ok (.aload_n 0, 1) := dk_42 (dk_at dksX0_all_0 1 rfl rfl)
theorem dX0_all_2 : decode cX0_all 2 = .ok (.invokevirtual 125, 3) := dk_182 0 125 (dk_at dksX0_all_0 2 rfl rfl)
theorem dX0_all_5 : decode cX0_all 5 = .ok (.ishl, 1) := dk_120 (dk_at dksX0_all_0 5 rfl rfl)
theorem dX0_all_6 : decode cX0_all 6 = .ok (.iconst 1, 1) := dk_4 (dk_at dksX0_all_0 6 rfl rfl)
theorem dX0_all_7 : decode cX0_all 7 = .ok (.isub, 1) := dk_100 (dk_at dksX0_all_0 7 rfl rfl)
theorem dX0_all_8 : decode cX0_all 8 = .ok (.ireturn, 1) := dk_172 (dk_at dksX0_all_0 8 rfl rfl)
abbrev cX0_within : ByteArray := prog_1_method_57_code
def yX0_within : MethodName := ⟨RX0, "within", "()I"⟩
def dkwX0_within_2 : List UInt8 := [132, 3, 1, 167, 255, 226, 167, 255, 214, 27, 172]
abbrev dktX0_within_2 : List UInt8 := dkwX0_within_2 ++ []
def dkwX0_within_1 : List UInt8 := [162, 0, 28, 27, 42, 29, 27, 182, 0, 179, 153, 0, 9, 4, 29, 120, 167, 0, 4, 3, 128, 60]
abbrev dktX0_within_1 : List UInt8 := dkwX0_within_1 ++ dktX0_within_2
def dkwX0_within_0 : List UInt8 := [42, 182, 0, 135, 180, 0, 138, 60, 2, 61, 28, 27, 159, 0, 43, 27, 61, 3, 62, 29, 42, 182, 0, 125]
abbrev dktX0_within_0 : List UInt8 := dkwX0_within_0 ++ dktX0_within_1
theorem dksX0_within_0 : cX0_within.data.toList.drop 0 = dktX0_within_0 := by decide +kernel
theorem dksX0_within_1 : cX0_within.data.toList.drop 24 = dktX0_within_1 := dk_seg dksX0_within_0 24 rfl rfl
theorem dksX0_within_2 : cX0_within.data.toList.drop 46 = dktX0_within_2 := dk_seg dksX0_within_1 22 rfl rfl
theorem dX0_within_0 : decode cX0_within 0 = .ok (.aload_n 0, 1) := dk_42 (dk_at dksX0_within_0 0 rfl rfl)
theorem dX0_within_1 : decode cX0_within 1 = .ok (.invokevirtual 135, 3) := dk_182 0 135 (dk_at dksX0_within_0 1 rfl rfl)
theorem dX0_within_4 : decode cX0_within 4 = .ok (.getfield 138, 3) := dk_180 0 138 (dk_at dksX0_within_0 4 rfl rfl)
theorem dX0_within_7 : decode cX0_within 7 = .ok (.istore_n 1, 1) := dk_60 (dk_at dksX0_within_0 7 rfl rfl)
theorem dX0_within_8 : decode cX0_within 8 = .ok (.iconst (-1), 1) := dk_2 (dk_at dksX0_within_0 8 rfl rfl)
theorem dX0_within_9 : decode cX0_within 9 = .ok (.istore_n 2, 1) := dk_61 (dk_at dksX0_within_0 9 rfl rfl)
theorem dX0_within_10 : decode cX0_within 10 = .ok (.iload_n 2, 1) := dk_28 (dk_at dksX0_within_0 10 rfl rfl)
theorem dX0_within_11 : decode cX0_within 11 = .ok (.iload_n 1, 1) := dk_27 (dk_at dksX0_within_0 11 rfl rfl)
theorem dX0_within_12 : decode cX0_within 12 = .ok (.if_icmp .eq 43, 3) := dk_159 0 43 (dk_at dksX0_within_0 12 rfl rfl)
theorem dX0_within_15 : decode cX0_within 15 = .ok (.iload_n 1, 1) := dk_27 (dk_at dksX0_within_0 15 rfl rfl)
theorem dX0_within_16 : decode cX0_within 16 = .ok (.istore_n 2, 1) := dk_61 (dk_at dksX0_within_0 16 rfl rfl)
theorem dX0_within_17 : decode cX0_within 17 = .ok (.iconst 0, 1) := dk_3 (dk_at dksX0_within_0 17 rfl rfl)
theorem dX0_within_18 : decode cX0_within 18 = .ok (.istore_n 3, 1) := dk_62 (dk_at dksX0_within_0 18 rfl rfl)
theorem dX0_within_19 : decode cX0_within 19 = .ok (.iload_n 3, 1) := dk_29 (dk_at dksX0_within_0 19 rfl rfl)
theorem dX0_within_20 : decode cX0_within 20 = .ok (.aload_n 0, 1) := dk_42 (dk_at dksX0_within_0 20 rfl rfl)
theorem dX0_within_21 : decode cX0_within 21 = .ok (.invokevirtual 125, 3) := dk_182 0 125 (dk_at dksX0_within_0 21 rfl rfl)
theorem dX0_within_24 : decode cX0_within 24 = .ok (.if_icmp .ge 28, 3) := dk_162 0 28 (dk_at dksX0_within_1 0 rfl rfl)
theorem dX0_within_27 : decode cX0_within 27 = .ok (.iload_n 1, 1) := dk_27 (dk_at dksX0_within_1 3 rfl rfl)
theorem dX0_within_28 : decode cX0_within 28 = .ok (.aload_n 0, 1) := dk_42 (dk_at dksX0_within_1 4 rfl rfl)
theorem dX0_within_29 : decode cX0_within 29 = .ok (.iload_n 3, 1) := dk_29 (dk_at dksX0_within_1 5 rfl rfl)
theorem dX0_within_30 : decode cX0_within 30 = .ok (.iload_n 1, 1) := dk_27 (dk_at dksX0_within_1 6 rfl rfl)
theorem dX0_within_31 : decode cX0_within 31 = .ok (.invokevirtual 179, 3) := dk_182 0 179 (dk_at dksX0_within_1 7 rfl rfl)
theorem dX0_within_34 : decode cX0_within 34 = .ok (.ifCond .eq 9, 3) := dk_153 0 9 (dk_at dksX0_within_1 10 rfl rfl)
theorem dX0_within_37 : decode cX0_within 37 = .ok (.iconst 1, 1) := dk_4 (dk_at dksX0_within_1 13 rfl rfl)
theorem dX0_within_38 : decode cX0_within 38 = .ok (.iload_n 3, 1) := dk_29 (dk_at dksX0_within_1 14 rfl rfl)
theorem dX0_within_39 : decode cX0_within 39 = .ok (.ishl, 1) := dk_120 (dk_at dksX0_within_1 15 rfl rfl)
theorem dX0_within_40 : decode cX0_within 40 = .ok (.goto 4, 3) := dk_167 0 4 (dk_at dksX0_within_1 16 rfl rfl)
theorem dX0_within_43 : decode cX0_within 43 = .ok (.iconst 0, 1) := dk_3 (dk_at dksX0_within_1 19 rfl rfl)
theorem dX0_within_44 : decode cX0_within 44 = .ok (.ior, 1) := dk_128 (dk_at dksX0_within_1 20 rfl rfl)
theorem dX0_within_45 : decode cX0_within 45 = .ok (.istore_n 1, 1) := dk_60 (dk_at dksX0_within_1 21 rfl rfl)
theorem dX0_within_46 : decode cX0_within 46 = .ok (.iinc 3 1, 3) := dk_132 3 1 (dk_at dksX0_within_2 0 rfl rfl)
theorem dX0_within_49 : decode cX0_within 49 = .ok (.goto (-30), 3) := dk_167 255 226 (dk_at dksX0_within_2 3 rfl rfl)
theorem dX0_within_52 : decode cX0_within 52 = .ok (.goto (-42), 3) := dk_167 255 214 (dk_at dksX0_within_2 6 rfl rfl)
theorem dX0_within_55 : decode cX0_within 55 = .ok (.iload_n 1, 1) := dk_27 (dk_at dksX0_within_2 9 rfl rfl)
theorem dX0_within_56 : decode cX0_within 56 = .ok (.ireturn, 1) := dk_172 (dk_at dksX0_within_2 10 rfl rfl)
abbrev cX0_rows : ByteArray := prog_1_method_61_code
def yX0_rows : MethodName := ⟨RX0, "rows", "(I)I"⟩
def dkwX0_rows_3 : List UInt8 := [21, 4, 120, 128, 62, 132, 5, 1, 167, 255, 213, 21, 4, 172]
abbrev dktX0_rows_3 : List UInt8 := dkwX0_rows_3 ++ []
def dkwX0_rows_2 : List UInt8 := [2, 172, 42, 28, 29, 2, 130, 126, 42, 182, 0, 135, 180, 0, 138, 29, 128, 182, 1, 100, 54, 4, 29, 4]
abbrev dktX0_rows_2 : List UInt8 := dkwX0_rows_2 ++ dktX0_rows_3
def dkwX0_rows_1 : List UInt8 := [160, 0, 10, 42, 180, 0, 79, 3, 46, 172, 3, 54, 5, 21, 5, 27, 163, 0, 43, 29, 28, 160, 0, 5]
abbrev dktX0_rows_1 : List UInt8 := dkwX0_rows_1 ++ dktX0_rows_2
def dkwX0_rows_0 : List UInt8 := [27, 2, 162, 0, 5, 2, 172, 42, 182, 1, 94, 61, 3, 62, 2, 54, 4, 42, 28, 182, 1, 97, 27, 2]
abbrev dktX0_rows_0 : List UInt8 := dkwX0_rows_0 ++ dktX0_rows_1
theorem dksX0_rows_0 : cX0_rows.data.toList.drop 0 = dktX0_rows_0 := by decide +kernel
theorem dksX0_rows_1 : cX0_rows.data.toList.drop 24 = dktX0_rows_1 := dk_seg dksX0_rows_0 24 rfl rfl
theorem dksX0_rows_2 : cX0_rows.data.toList.drop 48 = dktX0_rows_2 := dk_seg dksX0_rows_1 24 rfl rfl
theorem dksX0_rows_3 : cX0_rows.data.toList.drop 72 = dktX0_rows_3 := dk_seg dksX0_rows_2 24 rfl rfl
theorem dX0_rows_0 : decode cX0_rows 0 = .ok (.iload_n 1, 1) := dk_27 (dk_at dksX0_rows_0 0 rfl rfl)
theorem dX0_rows_1 : decode cX0_rows 1 = .ok (.iconst (-1), 1) := dk_2 (dk_at dksX0_rows_0 1 rfl rfl)
theorem dX0_rows_2 : decode cX0_rows 2 = .ok (.if_icmp .ge 5, 3) := dk_162 0 5 (dk_at dksX0_rows_0 2 rfl rfl)
theorem dX0_rows_5 : decode cX0_rows 5 = .ok (.iconst (-1), 1) := dk_2 (dk_at dksX0_rows_0 5 rfl rfl)
theorem dX0_rows_6 : decode cX0_rows 6 = .ok (.ireturn, 1) := dk_172 (dk_at dksX0_rows_0 6 rfl rfl)
theorem dX0_rows_7 : decode cX0_rows 7 = .ok (.aload_n 0, 1) := dk_42 (dk_at dksX0_rows_0 7 rfl rfl)
theorem dX0_rows_8 : decode cX0_rows 8 = .ok (.invokevirtual 350, 3) := dk_182 1 94 (dk_at dksX0_rows_0 8 rfl rfl)
theorem dX0_rows_11 : decode cX0_rows 11 = .ok (.istore_n 2, 1) := dk_61 (dk_at dksX0_rows_0 11 rfl rfl)
theorem dX0_rows_12 : decode cX0_rows 12 = .ok (.iconst 0, 1) := dk_3 (dk_at dksX0_rows_0 12 rfl rfl)
theorem dX0_rows_13 : decode cX0_rows 13 = .ok (.istore_n 3, 1) := dk_62 (dk_at dksX0_rows_0 13 rfl rfl)
theorem dX0_rows_14 : decode cX0_rows 14 = .ok (.iconst (-1), 1) := dk_2 (dk_at dksX0_rows_0 14 rfl rfl)
theorem dX0_rows_15 : decode cX0_rows 15 = .ok (.istore 4, 2) := dk_54 4 (dk_at dksX0_rows_0 15 rfl rfl)
theorem dX0_rows_17 : decode cX0_rows 17 = .ok (.aload_n 0, 1) := dk_42 (dk_at dksX0_rows_0 17 rfl rfl)
theorem dX0_rows_18 : decode cX0_rows 18 = .ok (.iload_n 2, 1) := dk_28 (dk_at dksX0_rows_0 18 rfl rfl)
theorem dX0_rows_19 : decode cX0_rows 19 = .ok (.invokevirtual 353, 3) := dk_182 1 97 (dk_at dksX0_rows_0 19 rfl rfl)
theorem dX0_rows_22 : decode cX0_rows 22 = .ok (.iload_n 1, 1) := dk_27 (dk_at dksX0_rows_0 22 rfl rfl)
theorem dX0_rows_23 : decode cX0_rows 23 = .ok (.iconst (-1), 1) := dk_2 (dk_at dksX0_rows_0 23 rfl rfl)
theorem dX0_rows_24 : decode cX0_rows 24 = .ok (.if_icmp .ne 10, 3) := dk_160 0 10 (dk_at dksX0_rows_1 0 rfl rfl)
theorem dX0_rows_27 : decode cX0_rows 27 = .ok (.aload_n 0, 1) := dk_42 (dk_at dksX0_rows_1 3 rfl rfl)
theorem dX0_rows_28 : decode cX0_rows 28 = .ok (.getfield 79, 3) := dk_180 0 79 (dk_at dksX0_rows_1 4 rfl rfl)
theorem dX0_rows_31 : decode cX0_rows 31 = .ok (.iconst 0, 1) := dk_3 (dk_at dksX0_rows_1 7 rfl rfl)
theorem dX0_rows_32 : decode cX0_rows 32 = .ok (.iaload, 1) := dk_46 (dk_at dksX0_rows_1 8 rfl rfl)
theorem dX0_rows_33 : decode cX0_rows 33 = .ok (.ireturn, 1) := dk_172 (dk_at dksX0_rows_1 9 rfl rfl)
theorem dX0_rows_34 : decode cX0_rows 34 = .ok (.iconst 0, 1) := dk_3 (dk_at dksX0_rows_1 10 rfl rfl)
theorem dX0_rows_35 : decode cX0_rows 35 = .ok (.istore 5, 2) := dk_54 5 (dk_at dksX0_rows_1 11 rfl rfl)
theorem dX0_rows_37 : decode cX0_rows 37 = .ok (.iload 5, 2) := dk_21 5 (dk_at dksX0_rows_1 13 rfl rfl)
theorem dX0_rows_39 : decode cX0_rows 39 = .ok (.iload_n 1, 1) := dk_27 (dk_at dksX0_rows_1 15 rfl rfl)
theorem dX0_rows_40 : decode cX0_rows 40 = .ok (.if_icmp .gt 43, 3) := dk_163 0 43 (dk_at dksX0_rows_1 16 rfl rfl)
theorem dX0_rows_43 : decode cX0_rows 43 = .ok (.iload_n 3, 1) := dk_29 (dk_at dksX0_rows_1 19 rfl rfl)
theorem dX0_rows_44 : decode cX0_rows 44 = .ok (.iload_n 2, 1) := dk_28 (dk_at dksX0_rows_1 20 rfl rfl)
theorem dX0_rows_45 : decode cX0_rows 45 = .ok (.if_icmp .ne 5, 3) := dk_160 0 5 (dk_at dksX0_rows_1 21 rfl rfl)
theorem dX0_rows_48 : decode cX0_rows 48 = .ok (.iconst (-1), 1) := dk_2 (dk_at dksX0_rows_2 0 rfl rfl)
theorem dX0_rows_49 : decode cX0_rows 49 = .ok (.ireturn, 1) := dk_172 (dk_at dksX0_rows_2 1 rfl rfl)
theorem dX0_rows_50 : decode cX0_rows 50 = .ok (.aload_n 0, 1) := dk_42 (dk_at dksX0_rows_2 2 rfl rfl)
theorem dX0_rows_51 : decode cX0_rows 51 = .ok (.iload_n 2, 1) := dk_28 (dk_at dksX0_rows_2 3 rfl rfl)
theorem dX0_rows_52 : decode cX0_rows 52 = .ok (.iload_n 3, 1) := dk_29 (dk_at dksX0_rows_2 4 rfl rfl)
theorem dX0_rows_53 : decode cX0_rows 53 = .ok (.iconst (-1), 1) := dk_2 (dk_at dksX0_rows_2 5 rfl rfl)
theorem dX0_rows_54 : decode cX0_rows 54 = .ok (.ixor, 1) := dk_130 (dk_at dksX0_rows_2 6 rfl rfl)
theorem dX0_rows_55 : decode cX0_rows 55 = .ok (.iand, 1) := dk_126 (dk_at dksX0_rows_2 7 rfl rfl)
theorem dX0_rows_56 : decode cX0_rows 56 = .ok (.aload_n 0, 1) := dk_42 (dk_at dksX0_rows_2 8 rfl rfl)
theorem dX0_rows_57 : decode cX0_rows 57 = .ok (.invokevirtual 135, 3) := dk_182 0 135 (dk_at dksX0_rows_2 9 rfl rfl)
theorem dX0_rows_60 : decode cX0_rows 60 = .ok (.getfield 138, 3) := dk_180 0 138 (dk_at dksX0_rows_2 12 rfl rfl)
theorem dX0_rows_63 : decode cX0_rows 63 = .ok (.iload_n 3, 1) := dk_29 (dk_at dksX0_rows_2 15 rfl rfl)
theorem dX0_rows_64 : decode cX0_rows 64 = .ok (.ior, 1) := dk_128 (dk_at dksX0_rows_2 16 rfl rfl)
theorem dX0_rows_65 : decode cX0_rows 65 = .ok (.invokevirtual 356, 3) := dk_182 1 100 (dk_at dksX0_rows_2 17 rfl rfl)
theorem dX0_rows_68 : decode cX0_rows 68 = .ok (.istore 4, 2) := dk_54 4 (dk_at dksX0_rows_2 20 rfl rfl)
theorem dX0_rows_70 : decode cX0_rows 70 = .ok (.iload_n 3, 1) := dk_29 (dk_at dksX0_rows_2 22 rfl rfl)
theorem dX0_rows_71 : decode cX0_rows 71 = .ok (.iconst 1, 1) := dk_4 (dk_at dksX0_rows_2 23 rfl rfl)
theorem dX0_rows_72 : decode cX0_rows 72 = .ok (.iload 4, 2) := dk_21 4 (dk_at dksX0_rows_3 0 rfl rfl)
theorem dX0_rows_74 : decode cX0_rows 74 = .ok (.ishl, 1) := dk_120 (dk_at dksX0_rows_3 2 rfl rfl)
theorem dX0_rows_75 : decode cX0_rows 75 = .ok (.ior, 1) := dk_128 (dk_at dksX0_rows_3 3 rfl rfl)
theorem dX0_rows_76 : decode cX0_rows 76 = .ok (.istore_n 3, 1) := dk_62 (dk_at dksX0_rows_3 4 rfl rfl)
theorem dX0_rows_77 : decode cX0_rows 77 = .ok (.iinc 5 1, 3) := dk_132 5 1 (dk_at dksX0_rows_3 5 rfl rfl)
theorem dX0_rows_80 : decode cX0_rows 80 = .ok (.goto (-43), 3) := dk_167 255 213 (dk_at dksX0_rows_3 8 rfl rfl)
theorem dX0_rows_83 : decode cX0_rows 83 = .ok (.iload 4, 2) := dk_21 4 (dk_at dksX0_rows_3 11 rfl rfl)
theorem dX0_rows_85 : decode cX0_rows 85 = .ok (.ireturn, 1) := dk_172 (dk_at dksX0_rows_3 13 rfl rfl)
abbrev cX0_left : ByteArray := prog_1_method_59_code
def yX0_left : MethodName := ⟨RX0, "left", "()I"⟩
def dkwX0_left_0 : List UInt8 := [42, 182, 1, 91, 42, 182, 0, 135, 180, 0, 138, 2, 130, 126, 172]
abbrev dktX0_left_0 : List UInt8 := dkwX0_left_0 ++ []
theorem dksX0_left_0 : cX0_left.data.toList.drop 0 = dktX0_left_0 := by decide +kernel
theorem dX0_left_0 : decode cX0_left 0 = .ok (.aload_n 0, 1) := dk_42 (dk_at dksX0_left_0 0 rfl rfl)
theorem dX0_left_1 : decode cX0_left 1 = .ok (.invokevirtual 347, 3) := dk_182 1 91 (dk_at dksX0_left_0 1 rfl rfl)
theorem dX0_left_4 : decode cX0_left 4 = .ok (.aload_n 0, 1) := dk_42 (dk_at dksX0_left_0 4 rfl rfl)
theorem dX0_left_5 : decode cX0_left 5 = .ok (.invokevirtual 135, 3) := dk_182 0 135 (dk_at dksX0_left_0 5 rfl rfl)
theorem dX0_left_8 : decode cX0_left 8 = .ok (.getfield 138, 3) := dk_180 0 138 (dk_at dksX0_left_0 8 rfl rfl)
theorem dX0_left_11 : decode cX0_left 11 = .ok (.iconst (-1), 1) := dk_2 (dk_at dksX0_left_0 11 rfl rfl)
theorem dX0_left_12 : decode cX0_left 12 = .ok (.ixor, 1) := dk_130 (dk_at dksX0_left_0 12 rfl rfl)
theorem dX0_left_13 : decode cX0_left 13 = .ok (.iand, 1) := dk_126 (dk_at dksX0_left_0 13 rfl rfl)
theorem dX0_left_14 : decode cX0_left 14 = .ok (.ireturn, 1) := dk_172 (dk_at dksX0_left_0 14 rfl rfl)
abbrev cX0_layOrders : ByteArray := prog_1_method_60_code
def yX0_layOrders : MethodName := ⟨RX0, "layOrders", "(I)V"⟩
def dkwX0_layOrders_4 : List UInt8 := [167, 255, 197, 132, 2, 255, 167, 255, 158, 177]
abbrev dktX0_layOrders_4 : List UInt8 := dkwX0_layOrders_4 ++ []
def dkwX0_layOrders_3 : List UInt8 := [153, 0, 16, 42, 180, 0, 79, 28, 4, 29, 120, 128, 46, 167, 0, 4, 3, 96, 79, 132, 3, 1]
abbrev dktX0_layOrders_3 : List UInt8 := dkwX0_layOrders_3 ++ dktX0_layOrders_4
def dkwX0_layOrders_2 : List UInt8 := [92, 46, 27, 29, 184, 0, 141, 153, 0, 33, 42, 29, 42, 182, 0, 135, 180, 0, 138, 28, 128, 182, 0, 179]
abbrev dktX0_layOrders_2 : List UInt8 := dkwX0_layOrders_2 ++ dktX0_layOrders_3
def dkwX0_layOrders_1 : List UInt8 := [160, 0, 7, 4, 167, 0, 4, 3, 79, 3, 62, 29, 42, 182, 0, 125, 162, 0, 57, 42, 180, 0, 79, 28]
abbrev dktX0_layOrders_1 : List UInt8 := dkwX0_layOrders_1 ++ dktX0_layOrders_2
def dkwX0_layOrders_0 : List UInt8 := [27, 61, 28, 155, 0, 100, 28, 27, 2, 130, 126, 153, 0, 6, 167, 0, 83, 42, 180, 0, 79, 28, 28, 27]
abbrev dktX0_layOrders_0 : List UInt8 := dkwX0_layOrders_0 ++ dktX0_layOrders_1
theorem dksX0_layOrders_0 : cX0_layOrders.data.toList.drop 0 = dktX0_layOrders_0 := by decide +kernel
theorem dksX0_layOrders_1 : cX0_layOrders.data.toList.drop 24 = dktX0_layOrders_1 := dk_seg dksX0_layOrders_0 24 rfl rfl
theorem dksX0_layOrders_2 : cX0_layOrders.data.toList.drop 48 = dktX0_layOrders_2 := dk_seg dksX0_layOrders_1 24 rfl rfl
theorem dksX0_layOrders_3 : cX0_layOrders.data.toList.drop 72 = dktX0_layOrders_3 := dk_seg dksX0_layOrders_2 24 rfl rfl
theorem dksX0_layOrders_4 : cX0_layOrders.data.toList.drop 94 = dktX0_layOrders_4 := dk_seg dksX0_layOrders_3 22 rfl rfl
theorem dX0_layOrders_0 : decode cX0_layOrders 0 = .ok (.iload_n 1, 1) := dk_27 (dk_at dksX0_layOrders_0 0 rfl rfl)
theorem dX0_layOrders_1 : decode cX0_layOrders 1 = .ok (.istore_n 2, 1) := dk_61 (dk_at dksX0_layOrders_0 1 rfl rfl)
theorem dX0_layOrders_2 : decode cX0_layOrders 2 = .ok (.iload_n 2, 1) := dk_28 (dk_at dksX0_layOrders_0 2 rfl rfl)
theorem dX0_layOrders_3 : decode cX0_layOrders 3 = .ok (.ifCond .lt 100, 3) := dk_155 0 100 (dk_at dksX0_layOrders_0 3 rfl rfl)
theorem dX0_layOrders_6 : decode cX0_layOrders 6 = .ok (.iload_n 2, 1) := dk_28 (dk_at dksX0_layOrders_0 6 rfl rfl)
theorem dX0_layOrders_7 : decode cX0_layOrders 7 = .ok (.iload_n 1, 1) := dk_27 (dk_at dksX0_layOrders_0 7 rfl rfl)
theorem dX0_layOrders_8 : decode cX0_layOrders 8 = .ok (.iconst (-1), 1) := dk_2 (dk_at dksX0_layOrders_0 8 rfl rfl)
theorem dX0_layOrders_9 : decode cX0_layOrders 9 = .ok (.ixor, 1) := dk_130 (dk_at dksX0_layOrders_0 9 rfl rfl)
theorem dX0_layOrders_10 : decode cX0_layOrders 10 = .ok (.iand, 1) := dk_126 (dk_at dksX0_layOrders_0 10 rfl rfl)
theorem dX0_layOrders_11 : decode cX0_layOrders 11 = .ok (.ifCond .eq 6, 3) := dk_153 0 6 (dk_at dksX0_layOrders_0 11 rfl rfl)
theorem dX0_layOrders_14 : decode cX0_layOrders 14 = .ok (.goto 83, 3) := dk_167 0 83 (dk_at dksX0_layOrders_0 14 rfl rfl)
theorem dX0_layOrders_17 : decode cX0_layOrders 17 = .ok (.aload_n 0, 1) := dk_42 (dk_at dksX0_layOrders_0 17 rfl rfl)
theorem dX0_layOrders_18 : decode cX0_layOrders 18 = .ok (.getfield 79, 3) := dk_180 0 79 (dk_at dksX0_layOrders_0 18 rfl rfl)
theorem dX0_layOrders_21 : decode cX0_layOrders 21 = .ok (.iload_n 2, 1) := dk_28 (dk_at dksX0_layOrders_0 21 rfl rfl)
theorem dX0_layOrders_22 : decode cX0_layOrders 22 = .ok (.iload_n 2, 1) := dk_28 (dk_at dksX0_layOrders_0 22 rfl rfl)
theorem dX0_layOrders_23 : decode cX0_layOrders 23 = .ok (.iload_n 1, 1) := dk_27 (dk_at dksX0_layOrders_0 23 rfl rfl)
theorem dX0_layOrders_24 : decode cX0_layOrders 24 = .ok (.if_icmp .ne 7, 3) := dk_160 0 7 (dk_at dksX0_layOrders_1 0 rfl rfl)
theorem dX0_layOrders_27 : decode cX0_layOrders 27 = .ok (.iconst 1, 1) := dk_4 (dk_at dksX0_layOrders_1 3 rfl rfl)
theorem dX0_layOrders_28 : decode cX0_layOrders 28 = .ok (.goto 4, 3) := dk_167 0 4 (dk_at dksX0_layOrders_1 4 rfl rfl)
theorem dX0_layOrders_31 : decode cX0_layOrders 31 = .ok (.iconst 0, 1) := dk_3 (dk_at dksX0_layOrders_1 7 rfl rfl)
theorem dX0_layOrders_32 : decode cX0_layOrders 32 = .ok (.iastore, 1) := dk_79 (dk_at dksX0_layOrders_1 8 rfl rfl)
theorem dX0_layOrders_33 : decode cX0_layOrders 33 = .ok (.iconst 0, 1) := dk_3 (dk_at dksX0_layOrders_1 9 rfl rfl)
theorem dX0_layOrders_34 : decode cX0_layOrders 34 = .ok (.istore_n 3, 1) := dk_62 (dk_at dksX0_layOrders_1 10 rfl rfl)
theorem dX0_layOrders_35 : decode cX0_layOrders 35 = .ok (.iload_n 3, 1) := dk_29 (dk_at dksX0_layOrders_1 11 rfl rfl)
theorem dX0_layOrders_36 : decode cX0_layOrders 36 = .ok (.aload_n 0, 1) := dk_42 (dk_at dksX0_layOrders_1 12 rfl rfl)
theorem dX0_layOrders_37 : decode cX0_layOrders 37 = .ok (.invokevirtual 125, 3) := dk_182 0 125 (dk_at dksX0_layOrders_1 13 rfl rfl)
theorem dX0_layOrders_40 : decode cX0_layOrders 40 = .ok (.if_icmp .ge 57, 3) := dk_162 0 57 (dk_at dksX0_layOrders_1 16 rfl rfl)
theorem dX0_layOrders_43 : decode cX0_layOrders 43 = .ok (.aload_n 0, 1) := dk_42 (dk_at dksX0_layOrders_1 19 rfl rfl)
theorem dX0_layOrders_44 : decode cX0_layOrders 44 = .ok (.getfield 79, 3) := dk_180 0 79 (dk_at dksX0_layOrders_1 20 rfl rfl)
theorem dX0_layOrders_47 : decode cX0_layOrders 47 = .ok (.iload_n 2, 1) := dk_28 (dk_at dksX0_layOrders_1 23 rfl rfl)
theorem dX0_layOrders_48 : decode cX0_layOrders 48 = .ok (.dup2, 1) := dk_92 (dk_at dksX0_layOrders_2 0 rfl rfl)
theorem dX0_layOrders_49 : decode cX0_layOrders 49 = .ok (.iaload, 1) := dk_46 (dk_at dksX0_layOrders_2 1 rfl rfl)
theorem dX0_layOrders_50 : decode cX0_layOrders 50 = .ok (.iload_n 1, 1) := dk_27 (dk_at dksX0_layOrders_2 2 rfl rfl)
theorem dX0_layOrders_51 : decode cX0_layOrders 51 = .ok (.iload_n 3, 1) := dk_29 (dk_at dksX0_layOrders_2 3 rfl rfl)
theorem dX0_layOrders_52 : decode cX0_layOrders 52 = .ok (.invokestatic 141, 3) := dk_184 0 141 (dk_at dksX0_layOrders_2 4 rfl rfl)
theorem dX0_layOrders_55 : decode cX0_layOrders 55 = .ok (.ifCond .eq 33, 3) := dk_153 0 33 (dk_at dksX0_layOrders_2 7 rfl rfl)
theorem dX0_layOrders_58 : decode cX0_layOrders 58 = .ok (.aload_n 0, 1) := dk_42 (dk_at dksX0_layOrders_2 10 rfl rfl)
theorem dX0_layOrders_59 : decode cX0_layOrders 59 = .ok (.iload_n 3, 1) := dk_29 (dk_at dksX0_layOrders_2 11 rfl rfl)
theorem dX0_layOrders_60 : decode cX0_layOrders 60 = .ok (.aload_n 0, 1) := dk_42 (dk_at dksX0_layOrders_2 12 rfl rfl)
theorem dX0_layOrders_61 : decode cX0_layOrders 61 = .ok (.invokevirtual 135, 3) := dk_182 0 135 (dk_at dksX0_layOrders_2 13 rfl rfl)
theorem dX0_layOrders_64 : decode cX0_layOrders 64 = .ok (.getfield 138, 3) := dk_180 0 138 (dk_at dksX0_layOrders_2 16 rfl rfl)
theorem dX0_layOrders_67 : decode cX0_layOrders 67 = .ok (.iload_n 2, 1) := dk_28 (dk_at dksX0_layOrders_2 19 rfl rfl)
theorem dX0_layOrders_68 : decode cX0_layOrders 68 = .ok (.ior, 1) := dk_128 (dk_at dksX0_layOrders_2 20 rfl rfl)
theorem dX0_layOrders_69 : decode cX0_layOrders 69 = .ok (.invokevirtual 179, 3) := dk_182 0 179 (dk_at dksX0_layOrders_2 21 rfl rfl)
theorem dX0_layOrders_72 : decode cX0_layOrders 72 = .ok (.ifCond .eq 16, 3) := dk_153 0 16 (dk_at dksX0_layOrders_3 0 rfl rfl)
theorem dX0_layOrders_75 : decode cX0_layOrders 75 = .ok (.aload_n 0, 1) := dk_42 (dk_at dksX0_layOrders_3 3 rfl rfl)
theorem dX0_layOrders_76 : decode cX0_layOrders 76 = .ok (.getfield 79, 3) := dk_180 0 79 (dk_at dksX0_layOrders_3 4 rfl rfl)
theorem dX0_layOrders_79 : decode cX0_layOrders 79 = .ok (.iload_n 2, 1) := dk_28 (dk_at dksX0_layOrders_3 7 rfl rfl)
theorem dX0_layOrders_80 : decode cX0_layOrders 80 = .ok (.iconst 1, 1) := dk_4 (dk_at dksX0_layOrders_3 8 rfl rfl)
theorem dX0_layOrders_81 : decode cX0_layOrders 81 = .ok (.iload_n 3, 1) := dk_29 (dk_at dksX0_layOrders_3 9 rfl rfl)
theorem dX0_layOrders_82 : decode cX0_layOrders 82 = .ok (.ishl, 1) := dk_120 (dk_at dksX0_layOrders_3 10 rfl rfl)
theorem dX0_layOrders_83 : decode cX0_layOrders 83 = .ok (.ior, 1) := dk_128 (dk_at dksX0_layOrders_3 11 rfl rfl)
theorem dX0_layOrders_84 : decode cX0_layOrders 84 = .ok (.iaload, 1) := dk_46 (dk_at dksX0_layOrders_3 12 rfl rfl)
theorem dX0_layOrders_85 : decode cX0_layOrders 85 = .ok (.goto 4, 3) := dk_167 0 4 (dk_at dksX0_layOrders_3 13 rfl rfl)
theorem dX0_layOrders_88 : decode cX0_layOrders 88 = .ok (.iconst 0, 1) := dk_3 (dk_at dksX0_layOrders_3 16 rfl rfl)
theorem dX0_layOrders_89 : decode cX0_layOrders 89 = .ok (.iadd, 1) := dk_96 (dk_at dksX0_layOrders_3 17 rfl rfl)
theorem dX0_layOrders_90 : decode cX0_layOrders 90 = .ok (.iastore, 1) := dk_79 (dk_at dksX0_layOrders_3 18 rfl rfl)
theorem dX0_layOrders_91 : decode cX0_layOrders 91 = .ok (.iinc 3 1, 3) := dk_132 3 1 (dk_at dksX0_layOrders_3 19 rfl rfl)
theorem dX0_layOrders_94 : decode cX0_layOrders 94 = .ok (.goto (-59), 3) := dk_167 255 197 (dk_at dksX0_layOrders_4 0 rfl rfl)
theorem dX0_layOrders_97 : decode cX0_layOrders 97 = .ok (.iinc 2 (-1), 3) := dk_132 2 255 (dk_at dksX0_layOrders_4 3 rfl rfl)
theorem dX0_layOrders_100 : decode cX0_layOrders 100 = .ok (.goto (-98), 3) := dk_167 255 158 (dk_at dksX0_layOrders_4 6 rfl rfl)
theorem dX0_layOrders_103 : decode cX0_layOrders 103 = .ok (.return_, 1) := dk_177 (dk_at dksX0_layOrders_4 9 rfl rfl)
abbrev cX0_firstOpen : ByteArray := prog_1_method_62_code
def yX0_firstOpen : MethodName := ⟨RX0, "firstOpen", "(II)I"⟩
def dkwX0_firstOpen_1 : List UInt8 := [167, 255, 236, 29, 172]
abbrev dktX0_firstOpen_1 : List UInt8 := dkwX0_firstOpen_1 ++ []
def dkwX0_firstOpen_0 : List UInt8 := [3, 62, 27, 29, 184, 0, 141, 153, 0, 12, 42, 29, 28, 182, 0, 179, 154, 0, 9, 132, 3, 1]
abbrev dktX0_firstOpen_0 : List UInt8 := dkwX0_firstOpen_0 ++ dktX0_firstOpen_1
theorem dksX0_firstOpen_0 : cX0_firstOpen.data.toList.drop 0 = dktX0_firstOpen_0 := by decide +kernel
theorem dksX0_firstOpen_1 : cX0_firstOpen.data.toList.drop 22 = dktX0_firstOpen_1 := dk_seg dksX0_firstOpen_0 22 rfl rfl
theorem dX0_firstOpen_0 : decode cX0_firstOpen 0 = .ok (.iconst 0, 1) := dk_3 (dk_at dksX0_firstOpen_0 0 rfl rfl)
theorem dX0_firstOpen_1 : decode cX0_firstOpen 1 = .ok (.istore_n 3, 1) := dk_62 (dk_at dksX0_firstOpen_0 1 rfl rfl)
theorem dX0_firstOpen_2 : decode cX0_firstOpen 2 = .ok (.iload_n 1, 1) := dk_27 (dk_at dksX0_firstOpen_0 2 rfl rfl)
theorem dX0_firstOpen_3 : decode cX0_firstOpen 3 = .ok (.iload_n 3, 1) := dk_29 (dk_at dksX0_firstOpen_0 3 rfl rfl)
theorem dX0_firstOpen_4 : decode cX0_firstOpen 4 = .ok (.invokestatic 141, 3) := dk_184 0 141 (dk_at dksX0_firstOpen_0 4 rfl rfl)
theorem dX0_firstOpen_7 : decode cX0_firstOpen 7 = .ok (.ifCond .eq 12, 3) := dk_153 0 12 (dk_at dksX0_firstOpen_0 7 rfl rfl)
theorem dX0_firstOpen_10 : decode cX0_firstOpen 10 = .ok (.aload_n 0, 1) := dk_42 (dk_at dksX0_firstOpen_0 10 rfl rfl)
theorem dX0_firstOpen_11 : decode cX0_firstOpen 11 = .ok (.iload_n 3, 1) := dk_29 (dk_at dksX0_firstOpen_0 11 rfl rfl)
theorem dX0_firstOpen_12 : decode cX0_firstOpen 12 = .ok (.iload_n 2, 1) := dk_28 (dk_at dksX0_firstOpen_0 12 rfl rfl)
theorem dX0_firstOpen_13 : decode cX0_firstOpen 13 = .ok (.invokevirtual 179, 3) := dk_182 0 179 (dk_at dksX0_firstOpen_0 13 rfl rfl)
theorem dX0_firstOpen_16 : decode cX0_firstOpen 16 = .ok (.ifCond .ne 9, 3) := dk_154 0 9 (dk_at dksX0_firstOpen_0 16 rfl rfl)
theorem dX0_firstOpen_19 : decode cX0_firstOpen 19 = .ok (.iinc 3 1, 3) := dk_132 3 1 (dk_at dksX0_firstOpen_0 19 rfl rfl)
theorem dX0_firstOpen_22 : decode cX0_firstOpen 22 = .ok (.goto (-20), 3) := dk_167 255 236 (dk_at dksX0_firstOpen_1 0 rfl rfl)
theorem dX0_firstOpen_25 : decode cX0_firstOpen 25 = .ok (.iload_n 3, 1) := dk_29 (dk_at dksX0_firstOpen_1 3 rfl rfl)
theorem dX0_firstOpen_26 : decode cX0_firstOpen 26 = .ok (.ireturn, 1) := dk_172 (dk_at dksX0_firstOpen_1 4 rfl rfl)
abbrev cX0_to : ByteArray := prog_1_method_64_code
def yX0_to : MethodName := ⟨RX0, "to", "(II)I"⟩
def dkwX0_to_4 : List UInt8 := [132, 6, 1, 167, 255, 208, 21, 5, 172]
abbrev dktX0_to_4 : List UInt8 := dkwX0_to_4 ++ []
def dkwX0_to_3 : List UInt8 := [42, 182, 0, 135, 180, 0, 138, 21, 4, 128, 182, 1, 100, 54, 5, 21, 4, 4, 21, 5, 120, 128, 54, 4]
abbrev dktX0_to_3 : List UInt8 := dkwX0_to_3 ++ dktX0_to_4
def dkwX0_to_2 : List UInt8 := [3, 54, 6, 21, 6, 28, 163, 0, 48, 21, 4, 29, 160, 0, 5, 2, 172, 42, 29, 21, 4, 2, 130, 126]
abbrev dktX0_to_2 : List UInt8 := dkwX0_to_2 ++ dktX0_to_3
def dkwX0_to_1 : List UInt8 := [2, 172, 42, 27, 182, 1, 103, 62, 3, 54, 4, 2, 54, 5, 28, 2, 160, 0, 8, 29, 184, 1, 21, 172]
abbrev dktX0_to_1 : List UInt8 := dkwX0_to_1 ++ dktX0_to_2
def dkwX0_to_0 : List UInt8 := [42, 27, 182, 0, 172, 153, 0, 19, 28, 2, 161, 0, 14, 42, 182, 1, 91, 27, 184, 0, 141, 154, 0, 5]
abbrev dktX0_to_0 : List UInt8 := dkwX0_to_0 ++ dktX0_to_1
theorem dksX0_to_0 : cX0_to.data.toList.drop 0 = dktX0_to_0 := by decide +kernel
theorem dksX0_to_1 : cX0_to.data.toList.drop 24 = dktX0_to_1 := dk_seg dksX0_to_0 24 rfl rfl
theorem dksX0_to_2 : cX0_to.data.toList.drop 48 = dktX0_to_2 := dk_seg dksX0_to_1 24 rfl rfl
theorem dksX0_to_3 : cX0_to.data.toList.drop 72 = dktX0_to_3 := dk_seg dksX0_to_2 24 rfl rfl
theorem dksX0_to_4 : cX0_to.data.toList.drop 96 = dktX0_to_4 := dk_seg dksX0_to_3 24 rfl rfl
theorem dX0_to_0 : decode cX0_to 0 = .ok (.aload_n 0, 1) := dk_42 (dk_at dksX0_to_0 0 rfl rfl)
theorem dX0_to_1 : decode cX0_to 1 = .ok (.iload_n 1, 1) := dk_27 (dk_at dksX0_to_0 1 rfl rfl)
theorem dX0_to_2 : decode cX0_to 2 = .ok (.invokevirtual 172, 3) := dk_182 0 172 (dk_at dksX0_to_0 2 rfl rfl)
theorem dX0_to_5 : decode cX0_to 5 = .ok (.ifCond .eq 19, 3) := dk_153 0 19 (dk_at dksX0_to_0 5 rfl rfl)
theorem dX0_to_8 : decode cX0_to 8 = .ok (.iload_n 2, 1) := dk_28 (dk_at dksX0_to_0 8 rfl rfl)
theorem dX0_to_9 : decode cX0_to 9 = .ok (.iconst (-1), 1) := dk_2 (dk_at dksX0_to_0 9 rfl rfl)
theorem dX0_to_10 : decode cX0_to 10 = .ok (.if_icmp .lt 14, 3) := dk_161 0 14 (dk_at dksX0_to_0 10 rfl rfl)
theorem dX0_to_13 : decode cX0_to 13 = .ok (.aload_n 0, 1) := dk_42 (dk_at dksX0_to_0 13 rfl rfl)
theorem dX0_to_14 : decode cX0_to 14 = .ok (.invokevirtual 347, 3) := dk_182 1 91 (dk_at dksX0_to_0 14 rfl rfl)
theorem dX0_to_17 : decode cX0_to 17 = .ok (.iload_n 1, 1) := dk_27 (dk_at dksX0_to_0 17 rfl rfl)
theorem dX0_to_18 : decode cX0_to 18 = .ok (.invokestatic 141, 3) := dk_184 0 141 (dk_at dksX0_to_0 18 rfl rfl)
theorem dX0_to_21 : decode cX0_to 21 = .ok (.ifCond .ne 5, 3) := dk_154 0 5 (dk_at dksX0_to_0 21 rfl rfl)
theorem dX0_to_24 : decode cX0_to 24 = .ok (.iconst (-1), 1) := dk_2 (dk_at dksX0_to_1 0 rfl rfl)
theorem dX0_to_25 : decode cX0_to 25 = .ok (.ireturn, 1) := dk_172 (dk_at dksX0_to_1 1 rfl rfl)
theorem dX0_to_26 : decode cX0_to 26 = .ok (.aload_n 0, 1) := dk_42 (dk_at dksX0_to_1 2 rfl rfl)
theorem dX0_to_27 : decode cX0_to 27 = .ok (.iload_n 1, 1) := dk_27 (dk_at dksX0_to_1 3 rfl rfl)
theorem dX0_to_28 : decode cX0_to 28 = .ok (.invokevirtual 359, 3) := dk_182 1 103 (dk_at dksX0_to_1 4 rfl rfl)
theorem dX0_to_31 : decode cX0_to 31 = .ok (.istore_n 3, 1) := dk_62 (dk_at dksX0_to_1 7 rfl rfl)
theorem dX0_to_32 : decode cX0_to 32 = .ok (.iconst 0, 1) := dk_3 (dk_at dksX0_to_1 8 rfl rfl)
theorem dX0_to_33 : decode cX0_to 33 = .ok (.istore 4, 2) := dk_54 4 (dk_at dksX0_to_1 9 rfl rfl)
theorem dX0_to_35 : decode cX0_to 35 = .ok (.iconst (-1), 1) := dk_2 (dk_at dksX0_to_1 11 rfl rfl)
theorem dX0_to_36 : decode cX0_to 36 = .ok (.istore 5, 2) := dk_54 5 (dk_at dksX0_to_1 12 rfl rfl)
theorem dX0_to_38 : decode cX0_to 38 = .ok (.iload_n 2, 1) := dk_28 (dk_at dksX0_to_1 14 rfl rfl)
theorem dX0_to_39 : decode cX0_to 39 = .ok (.iconst (-1), 1) := dk_2 (dk_at dksX0_to_1 15 rfl rfl)
theorem dX0_to_40 : decode cX0_to 40 = .ok (.if_icmp .ne 8, 3) := dk_160 0 8 (dk_at dksX0_to_1 16 rfl rfl)
theorem dX0_to_43 : decode cX0_to 43 = .ok (.iload_n 3, 1) := dk_29 (dk_at dksX0_to_1 19 rfl rfl)
theorem dX0_to_44 : decode cX0_to 44 = .ok (.invokestatic 277, 3) := dk_184 1 21 (dk_at dksX0_to_1 20 rfl rfl)
theorem dX0_to_47 : decode cX0_to 47 = .ok (.ireturn, 1) := dk_172 (dk_at dksX0_to_1 23 rfl rfl)
theorem dX0_to_48 : decode cX0_to 48 = .ok (.iconst 0, 1) := dk_3 (dk_at dksX0_to_2 0 rfl rfl)
theorem dX0_to_49 : decode cX0_to 49 = .ok (.istore 6, 2) := dk_54 6 (dk_at dksX0_to_2 1 rfl rfl)
theorem dX0_to_51 : decode cX0_to 51 = .ok (.iload 6, 2) := dk_21 6 (dk_at dksX0_to_2 3 rfl rfl)
theorem dX0_to_53 : decode cX0_to 53 = .ok (.iload_n 2, 1) := dk_28 (dk_at dksX0_to_2 5 rfl rfl)
theorem dX0_to_54 : decode cX0_to 54 = .ok (.if_icmp .gt 48, 3) := dk_163 0 48 (dk_at dksX0_to_2 6 rfl rfl)
theorem dX0_to_57 : decode cX0_to 57 = .ok (.iload 4, 2) := dk_21 4 (dk_at dksX0_to_2 9 rfl rfl)
theorem dX0_to_59 : decode cX0_to 59 = .ok (.iload_n 3, 1) := dk_29 (dk_at dksX0_to_2 11 rfl rfl)
theorem dX0_to_60 : decode cX0_to 60 = .ok (.if_icmp .ne 5, 3) := dk_160 0 5 (dk_at dksX0_to_2 12 rfl rfl)
theorem dX0_to_63 : decode cX0_to 63 = .ok (.iconst (-1), 1) := dk_2 (dk_at dksX0_to_2 15 rfl rfl)
theorem dX0_to_64 : decode cX0_to 64 = .ok (.ireturn, 1) := dk_172 (dk_at dksX0_to_2 16 rfl rfl)
theorem dX0_to_65 : decode cX0_to 65 = .ok (.aload_n 0, 1) := dk_42 (dk_at dksX0_to_2 17 rfl rfl)
theorem dX0_to_66 : decode cX0_to 66 = .ok (.iload_n 3, 1) := dk_29 (dk_at dksX0_to_2 18 rfl rfl)
theorem dX0_to_67 : decode cX0_to 67 = .ok (.iload 4, 2) := dk_21 4 (dk_at dksX0_to_2 19 rfl rfl)
theorem dX0_to_69 : decode cX0_to 69 = .ok (.iconst (-1), 1) := dk_2 (dk_at dksX0_to_2 21 rfl rfl)
theorem dX0_to_70 : decode cX0_to 70 = .ok (.ixor, 1) := dk_130 (dk_at dksX0_to_2 22 rfl rfl)
theorem dX0_to_71 : decode cX0_to 71 = .ok (.iand, 1) := dk_126 (dk_at dksX0_to_2 23 rfl rfl)
theorem dX0_to_72 : decode cX0_to 72 = .ok (.aload_n 0, 1) := dk_42 (dk_at dksX0_to_3 0 rfl rfl)
theorem dX0_to_73 : decode cX0_to 73 = .ok (.invokevirtual 135, 3) := dk_182 0 135 (dk_at dksX0_to_3 1 rfl rfl)
theorem dX0_to_76 : decode cX0_to 76 = .ok (.getfield 138, 3) := dk_180 0 138 (dk_at dksX0_to_3 4 rfl rfl)
theorem dX0_to_79 : decode cX0_to 79 = .ok (.iload 4, 2) := dk_21 4 (dk_at dksX0_to_3 7 rfl rfl)
theorem dX0_to_81 : decode cX0_to 81 = .ok (.ior, 1) := dk_128 (dk_at dksX0_to_3 9 rfl rfl)
theorem dX0_to_82 : decode cX0_to 82 = .ok (.invokevirtual 356, 3) := dk_182 1 100 (dk_at dksX0_to_3 10 rfl rfl)
theorem dX0_to_85 : decode cX0_to 85 = .ok (.istore 5, 2) := dk_54 5 (dk_at dksX0_to_3 13 rfl rfl)
theorem dX0_to_87 : decode cX0_to 87 = .ok (.iload 4, 2) := dk_21 4 (dk_at dksX0_to_3 15 rfl rfl)
theorem dX0_to_89 : decode cX0_to 89 = .ok (.iconst 1, 1) := dk_4 (dk_at dksX0_to_3 17 rfl rfl)
theorem dX0_to_90 : decode cX0_to 90 = .ok (.iload 5, 2) := dk_21 5 (dk_at dksX0_to_3 18 rfl rfl)
theorem dX0_to_92 : decode cX0_to 92 = .ok (.ishl, 1) := dk_120 (dk_at dksX0_to_3 20 rfl rfl)
theorem dX0_to_93 : decode cX0_to 93 = .ok (.ior, 1) := dk_128 (dk_at dksX0_to_3 21 rfl rfl)
theorem dX0_to_94 : decode cX0_to 94 = .ok (.istore 4, 2) := dk_54 4 (dk_at dksX0_to_3 22 rfl rfl)
theorem dX0_to_96 : decode cX0_to 96 = .ok (.iinc 6 1, 3) := dk_132 6 1 (dk_at dksX0_to_4 0 rfl rfl)
theorem dX0_to_99 : decode cX0_to 99 = .ok (.goto (-48), 3) := dk_167 255 208 (dk_at dksX0_to_4 3 rfl rfl)
theorem dX0_to_102 : decode cX0_to 102 = .ok (.iload 5, 2) := dk_21 5 (dk_at dksX0_to_4 6 rfl rfl)
theorem dX0_to_104 : decode cX0_to 104 = .ok (.ireturn, 1) := dk_172 (dk_at dksX0_to_4 8 rfl rfl)
abbrev cX0_leadsTo : ByteArray := prog_1_method_63_code
def yX0_leadsTo : MethodName := ⟨RX0, "leadsTo", "(I)I"⟩
def dkwX0_leadsTo_3 : List UInt8 := [61, 132, 4, 1, 167, 255, 208, 167, 255, 195, 28, 172]
abbrev dktX0_leadsTo_3 : List UInt8 := dkwX0_leadsTo_3 ++ []
def dkwX0_leadsTo_2 : List UInt8 := [180, 0, 10, 180, 0, 145, 21, 4, 46, 42, 182, 0, 135, 180, 0, 138, 2, 130, 126, 167, 0, 4, 3, 128]
abbrev dktX0_leadsTo_2 : List UInt8 := dkwX0_leadsTo_2 ++ dktX0_leadsTo_3
def dkwX0_leadsTo_1 : List UInt8 := [62, 3, 54, 4, 21, 4, 42, 182, 0, 125, 162, 0, 45, 28, 28, 21, 4, 184, 0, 141, 153, 0, 26, 42]
abbrev dktX0_leadsTo_1 : List UInt8 := dkwX0_leadsTo_1 ++ dktX0_leadsTo_2
def dkwX0_leadsTo_0 : List UInt8 := [42, 27, 182, 0, 176, 153, 0, 7, 3, 167, 0, 6, 4, 27, 120, 61, 2, 62, 29, 28, 159, 0, 62, 28]
abbrev dktX0_leadsTo_0 : List UInt8 := dkwX0_leadsTo_0 ++ dktX0_leadsTo_1
theorem dksX0_leadsTo_0 : cX0_leadsTo.data.toList.drop 0 = dktX0_leadsTo_0 := by decide +kernel
theorem dksX0_leadsTo_1 : cX0_leadsTo.data.toList.drop 24 = dktX0_leadsTo_1 := dk_seg dksX0_leadsTo_0 24 rfl rfl
theorem dksX0_leadsTo_2 : cX0_leadsTo.data.toList.drop 48 = dktX0_leadsTo_2 := dk_seg dksX0_leadsTo_1 24 rfl rfl
theorem dksX0_leadsTo_3 : cX0_leadsTo.data.toList.drop 72 = dktX0_leadsTo_3 := dk_seg dksX0_leadsTo_2 24 rfl rfl
theorem dX0_leadsTo_0 : decode cX0_leadsTo 0 = .ok (.aload_n 0, 1) := dk_42 (dk_at dksX0_leadsTo_0 0 rfl rfl)
theorem dX0_leadsTo_1 : decode cX0_leadsTo 1 = .ok (.iload_n 1, 1) := dk_27 (dk_at dksX0_leadsTo_0 1 rfl rfl)
theorem dX0_leadsTo_2 : decode cX0_leadsTo 2 = .ok (.invokevirtual 176, 3) := dk_182 0 176 (dk_at dksX0_leadsTo_0 2 rfl rfl)
theorem dX0_leadsTo_5 : decode cX0_leadsTo 5 = .ok (.ifCond .eq 7, 3) := dk_153 0 7 (dk_at dksX0_leadsTo_0 5 rfl rfl)
theorem dX0_leadsTo_8 : decode cX0_leadsTo 8 = .ok (.iconst 0, 1) := dk_3 (dk_at dksX0_leadsTo_0 8 rfl rfl)
theorem dX0_leadsTo_9 : decode cX0_leadsTo 9 = .ok (.goto 6, 3) := dk_167 0 6 (dk_at dksX0_leadsTo_0 9 rfl rfl)
theorem dX0_leadsTo_12 : decode cX0_leadsTo 12 = .ok (.iconst 1, 1) := dk_4 (dk_at dksX0_leadsTo_0 12 rfl rfl)
theorem dX0_leadsTo_13 : decode cX0_leadsTo 13 = .ok (.iload_n 1, 1) := dk_27 (dk_at dksX0_leadsTo_0 13 rfl rfl)
theorem dX0_leadsTo_14 : decode cX0_leadsTo 14 = .ok (.ishl, 1) := dk_120 (dk_at dksX0_leadsTo_0 14 rfl rfl)
theorem dX0_leadsTo_15 : decode cX0_leadsTo 15 = .ok (.istore_n 2, 1) := dk_61 (dk_at dksX0_leadsTo_0 15 rfl rfl)
theorem dX0_leadsTo_16 : decode cX0_leadsTo 16 = .ok (.iconst (-1), 1) := dk_2 (dk_at dksX0_leadsTo_0 16 rfl rfl)
theorem dX0_leadsTo_17 : decode cX0_leadsTo 17 = .ok (.istore_n 3, 1) := dk_62 (dk_at dksX0_leadsTo_0 17 rfl rfl)
theorem dX0_leadsTo_18 : decode cX0_leadsTo 18 = .ok (.iload_n 3, 1) := dk_29 (dk_at dksX0_leadsTo_0 18 rfl rfl)
theorem dX0_leadsTo_19 : decode cX0_leadsTo 19 = .ok (.iload_n 2, 1) := dk_28 (dk_at dksX0_leadsTo_0 19 rfl rfl)
theorem dX0_leadsTo_20 : decode cX0_leadsTo 20 = .ok (.if_icmp .eq 62, 3) := dk_159 0 62 (dk_at dksX0_leadsTo_0 20 rfl rfl)
theorem dX0_leadsTo_23 : decode cX0_leadsTo 23 = .ok (.iload_n 2, 1) := dk_28 (dk_at dksX0_leadsTo_0 23 rfl rfl)
theorem dX0_leadsTo_24 : decode cX0_leadsTo 24 = .ok (.istore_n 3, 1) := dk_62 (dk_at dksX0_leadsTo_1 0 rfl rfl)
theorem dX0_leadsTo_25 : decode cX0_leadsTo 25 = .ok (.iconst 0, 1) := dk_3 (dk_at dksX0_leadsTo_1 1 rfl rfl)
theorem dX0_leadsTo_26 : decode cX0_leadsTo 26 = .ok (.istore 4, 2) := dk_54 4 (dk_at dksX0_leadsTo_1 2 rfl rfl)
theorem dX0_leadsTo_28 : decode cX0_leadsTo 28 = .ok (.iload 4, 2) := dk_21 4 (dk_at dksX0_leadsTo_1 4 rfl rfl)
theorem dX0_leadsTo_30 : decode cX0_leadsTo 30 = .ok (.aload_n 0, 1) := dk_42 (dk_at dksX0_leadsTo_1 6 rfl rfl)
theorem dX0_leadsTo_31 : decode cX0_leadsTo 31 = .ok (.invokevirtual 125, 3) := dk_182 0 125 (dk_at dksX0_leadsTo_1 7 rfl rfl)
theorem dX0_leadsTo_34 : decode cX0_leadsTo 34 = .ok (.if_icmp .ge 45, 3) := dk_162 0 45 (dk_at dksX0_leadsTo_1 10 rfl rfl)
theorem dX0_leadsTo_37 : decode cX0_leadsTo 37 = .ok (.iload_n 2, 1) := dk_28 (dk_at dksX0_leadsTo_1 13 rfl rfl)
theorem dX0_leadsTo_38 : decode cX0_leadsTo 38 = .ok (.iload_n 2, 1) := dk_28 (dk_at dksX0_leadsTo_1 14 rfl rfl)
theorem dX0_leadsTo_39 : decode cX0_leadsTo 39 = .ok (.iload 4, 2) := dk_21 4 (dk_at dksX0_leadsTo_1 15 rfl rfl)
theorem dX0_leadsTo_41 : decode cX0_leadsTo 41 = .ok (.invokestatic 141, 3) := dk_184 0 141 (dk_at dksX0_leadsTo_1 17 rfl rfl)
theorem dX0_leadsTo_44 : decode cX0_leadsTo 44 = .ok (.ifCond .eq 26, 3) := dk_153 0 26 (dk_at dksX0_leadsTo_1 20 rfl rfl)
theorem dX0_leadsTo_47 : decode cX0_leadsTo 47 = .ok (.aload_n 0, 1) := dk_42 (dk_at dksX0_leadsTo_1 23 rfl rfl)
theorem dX0_leadsTo_48 : decode cX0_leadsTo 48 = .ok (.getfield 10, 3) := dk_180 0 10 (dk_at dksX0_leadsTo_2 0 rfl rfl)
theorem dX0_leadsTo_51 : decode cX0_leadsTo 51 = .ok (.getfield 145, 3) := dk_180 0 145 (dk_at dksX0_leadsTo_2 3 rfl rfl)
theorem dX0_leadsTo_54 : decode cX0_leadsTo 54 = .ok (.iload 4, 2) := dk_21 4 (dk_at dksX0_leadsTo_2 6 rfl rfl)
theorem dX0_leadsTo_56 : decode cX0_leadsTo 56 = .ok (.iaload, 1) := dk_46 (dk_at dksX0_leadsTo_2 8 rfl rfl)
theorem dX0_leadsTo_57 : decode cX0_leadsTo 57 = .ok (.aload_n 0, 1) := dk_42 (dk_at dksX0_leadsTo_2 9 rfl rfl)
theorem dX0_leadsTo_58 : decode cX0_leadsTo 58 = .ok (.invokevirtual 135, 3) := dk_182 0 135 (dk_at dksX0_leadsTo_2 10 rfl rfl)
theorem dX0_leadsTo_61 : decode cX0_leadsTo 61 = .ok (.getfield 138, 3) := dk_180 0 138 (dk_at dksX0_leadsTo_2 13 rfl rfl)
theorem dX0_leadsTo_64 : decode cX0_leadsTo 64 = .ok (.iconst (-1), 1) := dk_2 (dk_at dksX0_leadsTo_2 16 rfl rfl)
theorem dX0_leadsTo_65 : decode cX0_leadsTo 65 = .ok (.ixor, 1) := dk_130 (dk_at dksX0_leadsTo_2 17 rfl rfl)
theorem dX0_leadsTo_66 : decode cX0_leadsTo 66 = .ok (.iand, 1) := dk_126 (dk_at dksX0_leadsTo_2 18 rfl rfl)
theorem dX0_leadsTo_67 : decode cX0_leadsTo 67 = .ok (.goto 4, 3) := dk_167 0 4 (dk_at dksX0_leadsTo_2 19 rfl rfl)
theorem dX0_leadsTo_70 : decode cX0_leadsTo 70 = .ok (.iconst 0, 1) := dk_3 (dk_at dksX0_leadsTo_2 22 rfl rfl)
theorem dX0_leadsTo_71 : decode cX0_leadsTo 71 = .ok (.ior, 1) := dk_128 (dk_at dksX0_leadsTo_2 23 rfl rfl)
theorem dX0_leadsTo_72 : decode cX0_leadsTo 72 = .ok (.istore_n 2, 1) := dk_61 (dk_at dksX0_leadsTo_3 0 rfl rfl)
theorem dX0_leadsTo_73 : decode cX0_leadsTo 73 = .ok (.iinc 4 1, 3) := dk_132 4 1 (dk_at dksX0_leadsTo_3 1 rfl rfl)
theorem dX0_leadsTo_76 : decode cX0_leadsTo 76 = .ok (.goto (-48), 3) := dk_167 255 208 (dk_at dksX0_leadsTo_3 4 rfl rfl)
theorem dX0_leadsTo_79 : decode cX0_leadsTo 79 = .ok (.goto (-61), 3) := dk_167 255 195 (dk_at dksX0_leadsTo_3 7 rfl rfl)
theorem dX0_leadsTo_82 : decode cX0_leadsTo 82 = .ok (.iload_n 2, 1) := dk_28 (dk_at dksX0_leadsTo_3 10 rfl rfl)
theorem dX0_leadsTo_83 : decode cX0_leadsTo 83 = .ok (.ireturn, 1) := dk_172 (dk_at dksX0_leadsTo_3 11 rfl rfl)
abbrev cX0_deep : ByteArray := prog_1_method_66_code
def yX0_deep : MethodName := ⟨RX0, "deep", "(I)I"⟩
def dkwX0_deep_2 : List UInt8 := [153, 0, 5, 2, 172, 132, 3, 1, 167, 255, 223, 42, 27, 182, 1, 106, 172]
abbrev dktX0_deep_2 : List UInt8 := dkwX0_deep_2 ++ []
def dkwX0_deep_1 : List UInt8 := [182, 0, 125, 162, 0, 31, 28, 29, 184, 0, 141, 153, 0, 17, 42, 29, 182, 1, 85, 29, 184, 0, 141]
abbrev dktX0_deep_1 : List UInt8 := dkwX0_deep_1 ++ dktX0_deep_2
def dkwX0_deep_0 : List UInt8 := [42, 27, 182, 0, 172, 154, 0, 5, 2, 172, 42, 27, 182, 1, 85, 4, 27, 120, 128, 61, 3, 62, 29, 42]
abbrev dktX0_deep_0 : List UInt8 := dkwX0_deep_0 ++ dktX0_deep_1
theorem dksX0_deep_0 : cX0_deep.data.toList.drop 0 = dktX0_deep_0 := by decide +kernel
theorem dksX0_deep_1 : cX0_deep.data.toList.drop 24 = dktX0_deep_1 := dk_seg dksX0_deep_0 24 rfl rfl
theorem dksX0_deep_2 : cX0_deep.data.toList.drop 47 = dktX0_deep_2 := dk_seg dksX0_deep_1 23 rfl rfl
theorem dX0_deep_0 : decode cX0_deep 0 = .ok (.aload_n 0, 1) := dk_42 (dk_at dksX0_deep_0 0 rfl rfl)
theorem dX0_deep_1 : decode cX0_deep 1 = .ok (.iload_n 1, 1) := dk_27 (dk_at dksX0_deep_0 1 rfl rfl)
theorem dX0_deep_2 : decode cX0_deep 2 = .ok (.invokevirtual 172, 3) := dk_182 0 172 (dk_at dksX0_deep_0 2 rfl rfl)
theorem dX0_deep_5 : decode cX0_deep 5 = .ok (.ifCond .ne 5, 3) := dk_154 0 5 (dk_at dksX0_deep_0 5 rfl rfl)
theorem dX0_deep_8 : decode cX0_deep 8 = .ok (.iconst (-1), 1) := dk_2 (dk_at dksX0_deep_0 8 rfl rfl)
theorem dX0_deep_9 : decode cX0_deep 9 = .ok (.ireturn, 1) := dk_172 (dk_at dksX0_deep_0 9 rfl rfl)
theorem dX0_deep_10 : decode cX0_deep 10 = .ok (.aload_n 0, 1) := dk_42 (dk_at dksX0_deep_0 10 rfl rfl)
theorem dX0_deep_11 : decode cX0_deep 11 = .ok (.iload_n 1, 1) := dk_27 (dk_at dksX0_deep_0 11 rfl rfl)
theorem dX0_deep_12 : decode cX0_deep 12 = .ok (.invokevirtual 341, 3) := dk_182 1 85 (dk_at dksX0_deep_0 12 rfl rfl)
theorem dX0_deep_15 : decode cX0_deep 15 = .ok (.iconst 1, 1) := dk_4 (dk_at dksX0_deep_0 15 rfl rfl)
theorem dX0_deep_16 : decode cX0_deep 16 = .ok (.iload_n 1, 1) := dk_27 (dk_at dksX0_deep_0 16 rfl rfl)
theorem dX0_deep_17 : decode cX0_deep 17 = .ok (.ishl, 1) := dk_120 (dk_at dksX0_deep_0 17 rfl rfl)
theorem dX0_deep_18 : decode cX0_deep 18 = .ok (.ior, 1) := dk_128 (dk_at dksX0_deep_0 18 rfl rfl)
theorem dX0_deep_19 : decode cX0_deep 19 = .ok (.istore_n 2, 1) := dk_61 (dk_at dksX0_deep_0 19 rfl rfl)
theorem dX0_deep_20 : decode cX0_deep 20 = .ok (.iconst 0, 1) := dk_3 (dk_at dksX0_deep_0 20 rfl rfl)
theorem dX0_deep_21 : decode cX0_deep 21 = .ok (.istore_n 3, 1) := dk_62 (dk_at dksX0_deep_0 21 rfl rfl)
theorem dX0_deep_22 : decode cX0_deep 22 = .ok (.iload_n 3, 1) := dk_29 (dk_at dksX0_deep_0 22 rfl rfl)
theorem dX0_deep_23 : decode cX0_deep 23 = .ok (.aload_n 0, 1) := dk_42 (dk_at dksX0_deep_0 23 rfl rfl)
theorem dX0_deep_24 : decode cX0_deep 24 = .ok (.invokevirtual 125, 3) := dk_182 0 125 (dk_at dksX0_deep_1 0 rfl rfl)
theorem dX0_deep_27 : decode cX0_deep 27 = .ok (.if_icmp .ge 31, 3) := dk_162 0 31 (dk_at dksX0_deep_1 3 rfl rfl)
theorem dX0_deep_30 : decode cX0_deep 30 = .ok (.iload_n 2, 1) := dk_28 (dk_at dksX0_deep_1 6 rfl rfl)
theorem dX0_deep_31 : decode cX0_deep 31 = .ok (.iload_n 3, 1) := dk_29 (dk_at dksX0_deep_1 7 rfl rfl)
theorem dX0_deep_32 : decode cX0_deep 32 = .ok (.invokestatic 141, 3) := dk_184 0 141 (dk_at dksX0_deep_1 8 rfl rfl)
theorem dX0_deep_35 : decode cX0_deep 35 = .ok (.ifCond .eq 17, 3) := dk_153 0 17 (dk_at dksX0_deep_1 11 rfl rfl)
theorem dX0_deep_38 : decode cX0_deep 38 = .ok (.aload_n 0, 1) := dk_42 (dk_at dksX0_deep_1 14 rfl rfl)
theorem dX0_deep_39 : decode cX0_deep 39 = .ok (.iload_n 3, 1) := dk_29 (dk_at dksX0_deep_1 15 rfl rfl)
theorem dX0_deep_40 : decode cX0_deep 40 = .ok (.invokevirtual 341, 3) := dk_182 1 85 (dk_at dksX0_deep_1 16 rfl rfl)
theorem dX0_deep_43 : decode cX0_deep 43 = .ok (.iload_n 3, 1) := dk_29 (dk_at dksX0_deep_1 19 rfl rfl)
theorem dX0_deep_44 : decode cX0_deep 44 = .ok (.invokestatic 141, 3) := dk_184 0 141 (dk_at dksX0_deep_1 20 rfl rfl)
theorem dX0_deep_47 : decode cX0_deep 47 = .ok (.ifCond .eq 5, 3) := dk_153 0 5 (dk_at dksX0_deep_2 0 rfl rfl)
theorem dX0_deep_50 : decode cX0_deep 50 = .ok (.iconst (-1), 1) := dk_2 (dk_at dksX0_deep_2 3 rfl rfl)
theorem dX0_deep_51 : decode cX0_deep 51 = .ok (.ireturn, 1) := dk_172 (dk_at dksX0_deep_2 4 rfl rfl)
theorem dX0_deep_52 : decode cX0_deep 52 = .ok (.iinc 3 1, 3) := dk_132 3 1 (dk_at dksX0_deep_2 5 rfl rfl)
theorem dX0_deep_55 : decode cX0_deep 55 = .ok (.goto (-33), 3) := dk_167 255 223 (dk_at dksX0_deep_2 8 rfl rfl)
theorem dX0_deep_58 : decode cX0_deep 58 = .ok (.aload_n 0, 1) := dk_42 (dk_at dksX0_deep_2 11 rfl rfl)
theorem dX0_deep_59 : decode cX0_deep 59 = .ok (.iload_n 1, 1) := dk_27 (dk_at dksX0_deep_2 12 rfl rfl)
theorem dX0_deep_60 : decode cX0_deep 60 = .ok (.invokevirtual 362, 3) := dk_182 1 106 (dk_at dksX0_deep_2 13 rfl rfl)
theorem dX0_deep_63 : decode cX0_deep 63 = .ok (.ireturn, 1) := dk_172 (dk_at dksX0_deep_2 16 rfl rfl)
abbrev cX0_deepOf : ByteArray := prog_1_method_65_code
def yX0_deepOf : MethodName := ⟨RX0, "deepOf", "(I)I"⟩
def dkwX0_deepOf_2 : List UInt8 := [167, 255, 215, 28, 4, 96, 172]
abbrev dktX0_deepOf_2 : List UInt8 := dkwX0_deepOf_2 ++ []
def dkwX0_deepOf_1 : List UInt8 := [184, 0, 141, 153, 0, 15, 28, 42, 29, 182, 1, 106, 184, 1, 65, 167, 0, 4, 28, 61, 132, 3, 1]
abbrev dktX0_deepOf_1 : List UInt8 := dkwX0_deepOf_1 ++ dktX0_deepOf_2
def dkwX0_deepOf_0 : List UInt8 := [3, 61, 3, 62, 29, 42, 182, 0, 125, 162, 0, 39, 42, 180, 0, 10, 180, 0, 145, 27, 46, 29]
abbrev dktX0_deepOf_0 : List UInt8 := dkwX0_deepOf_0 ++ dktX0_deepOf_1
theorem dksX0_deepOf_0 : cX0_deepOf.data.toList.drop 0 = dktX0_deepOf_0 := by decide +kernel
theorem dksX0_deepOf_1 : cX0_deepOf.data.toList.drop 22 = dktX0_deepOf_1 := dk_seg dksX0_deepOf_0 22 rfl rfl
theorem dksX0_deepOf_2 : cX0_deepOf.data.toList.drop 45 = dktX0_deepOf_2 := dk_seg dksX0_deepOf_1 23 rfl rfl
theorem dX0_deepOf_0 : decode cX0_deepOf 0 = .ok (.iconst 0, 1) := dk_3 (dk_at dksX0_deepOf_0 0 rfl rfl)
theorem dX0_deepOf_1 : decode cX0_deepOf 1 = .ok (.istore_n 2, 1) := dk_61 (dk_at dksX0_deepOf_0 1 rfl rfl)
theorem dX0_deepOf_2 : decode cX0_deepOf 2 = .ok (.iconst 0, 1) := dk_3 (dk_at dksX0_deepOf_0 2 rfl rfl)
theorem dX0_deepOf_3 : decode cX0_deepOf 3 = .ok (.istore_n 3, 1) := dk_62 (dk_at dksX0_deepOf_0 3 rfl rfl)
theorem dX0_deepOf_4 : decode cX0_deepOf 4 = .ok (.iload_n 3, 1) := dk_29 (dk_at dksX0_deepOf_0 4 rfl rfl)
theorem dX0_deepOf_5 : decode cX0_deepOf 5 = .ok (.aload_n 0, 1) := dk_42 (dk_at dksX0_deepOf_0 5 rfl rfl)
theorem dX0_deepOf_6 : decode cX0_deepOf 6 = .ok (.invokevirtual 125, 3) := dk_182 0 125 (dk_at dksX0_deepOf_0 6 rfl rfl)
theorem dX0_deepOf_9 : decode cX0_deepOf 9 = .ok (.if_icmp .ge 39, 3) := dk_162 0 39 (dk_at dksX0_deepOf_0 9 rfl rfl)
theorem dX0_deepOf_12 : decode cX0_deepOf 12 = .ok (.aload_n 0, 1) := dk_42 (dk_at dksX0_deepOf_0 12 rfl rfl)
theorem dX0_deepOf_13 : decode cX0_deepOf 13 = .ok (.getfield 10, 3) := dk_180 0 10 (dk_at dksX0_deepOf_0 13 rfl rfl)
theorem dX0_deepOf_16 : decode cX0_deepOf 16 = .ok (.getfield 145, 3) := dk_180 0 145 (dk_at dksX0_deepOf_0 16 rfl rfl)
theorem dX0_deepOf_19 : decode cX0_deepOf 19 = .ok (.iload_n 1, 1) := dk_27 (dk_at dksX0_deepOf_0 19 rfl rfl)
theorem dX0_deepOf_20 : decode cX0_deepOf 20 = .ok (.iaload, 1) := dk_46 (dk_at dksX0_deepOf_0 20 rfl rfl)
theorem dX0_deepOf_21 : decode cX0_deepOf 21 = .ok (.iload_n 3, 1) := dk_29 (dk_at dksX0_deepOf_0 21 rfl rfl)
theorem dX0_deepOf_22 : decode cX0_deepOf 22 = .ok (.invokestatic 141, 3) := dk_184 0 141 (dk_at dksX0_deepOf_1 0 rfl rfl)
theorem dX0_deepOf_25 : decode cX0_deepOf 25 = .ok (.ifCond .eq 15, 3) := dk_153 0 15 (dk_at dksX0_deepOf_1 3 rfl rfl)
theorem dX0_deepOf_28 : decode cX0_deepOf 28 = .ok (.iload_n 2, 1) := dk_28 (dk_at dksX0_deepOf_1 6 rfl rfl)
theorem dX0_deepOf_29 : decode cX0_deepOf 29 = .ok (.aload_n 0, 1) := dk_42 (dk_at dksX0_deepOf_1 7 rfl rfl)
theorem dX0_deepOf_30 : decode cX0_deepOf 30 = .ok (.iload_n 3, 1) := dk_29 (dk_at dksX0_deepOf_1 8 rfl rfl)
theorem dX0_deepOf_31 : decode cX0_deepOf 31 = .ok (.invokevirtual 362, 3) := dk_182 1 106 (dk_at dksX0_deepOf_1 9 rfl rfl)
theorem dX0_deepOf_34 : decode cX0_deepOf 34 = .ok (.invokestatic 321, 3) := dk_184 1 65 (dk_at dksX0_deepOf_1 12 rfl rfl)
theorem dX0_deepOf_37 : decode cX0_deepOf 37 = .ok (.goto 4, 3) := dk_167 0 4 (dk_at dksX0_deepOf_1 15 rfl rfl)
theorem dX0_deepOf_40 : decode cX0_deepOf 40 = .ok (.iload_n 2, 1) := dk_28 (dk_at dksX0_deepOf_1 18 rfl rfl)
theorem dX0_deepOf_41 : decode cX0_deepOf 41 = .ok (.istore_n 2, 1) := dk_61 (dk_at dksX0_deepOf_1 19 rfl rfl)
theorem dX0_deepOf_42 : decode cX0_deepOf 42 = .ok (.iinc 3 1, 3) := dk_132 3 1 (dk_at dksX0_deepOf_1 20 rfl rfl)
theorem dX0_deepOf_45 : decode cX0_deepOf 45 = .ok (.goto (-41), 3) := dk_167 255 215 (dk_at dksX0_deepOf_2 0 rfl rfl)
theorem dX0_deepOf_48 : decode cX0_deepOf 48 = .ok (.iload_n 2, 1) := dk_28 (dk_at dksX0_deepOf_2 3 rfl rfl)
theorem dX0_deepOf_49 : decode cX0_deepOf 49 = .ok (.iconst 1, 1) := dk_4 (dk_at dksX0_deepOf_2 4 rfl rfl)
theorem dX0_deepOf_50 : decode cX0_deepOf 50 = .ok (.iadd, 1) := dk_96 (dk_at dksX0_deepOf_2 5 rfl rfl)
theorem dX0_deepOf_51 : decode cX0_deepOf 51 = .ok (.ireturn, 1) := dk_172 (dk_at dksX0_deepOf_2 6 rfl rfl)
abbrev cX0_atOnce : ByteArray := prog_1_method_68_code
def yX0_atOnce : MethodName := ⟨RX0, "atOnce", "()I"⟩
def dkwX0_atOnce_2 : List UInt8 := [28, 172]
abbrev dktX0_atOnce_2 : List UInt8 := dkwX0_atOnce_2 ++ []
def dkwX0_atOnce_1 : List UInt8 := [153, 0, 16, 28, 42, 29, 27, 182, 1, 109, 184, 1, 65, 167, 0, 4, 28, 61, 132, 3, 1, 167, 255, 222]
abbrev dktX0_atOnce_1 : List UInt8 := dkwX0_atOnce_1 ++ dktX0_atOnce_2
def dkwX0_atOnce_0 : List UInt8 := [42, 182, 1, 94, 60, 3, 61, 3, 62, 29, 42, 182, 0, 125, 162, 0, 32, 27, 29, 184, 0, 141]
abbrev dktX0_atOnce_0 : List UInt8 := dkwX0_atOnce_0 ++ dktX0_atOnce_1
theorem dksX0_atOnce_0 : cX0_atOnce.data.toList.drop 0 = dktX0_atOnce_0 := by decide +kernel
theorem dksX0_atOnce_1 : cX0_atOnce.data.toList.drop 22 = dktX0_atOnce_1 := dk_seg dksX0_atOnce_0 22 rfl rfl
theorem dksX0_atOnce_2 : cX0_atOnce.data.toList.drop 46 = dktX0_atOnce_2 := dk_seg dksX0_atOnce_1 24 rfl rfl
theorem dX0_atOnce_0 : decode cX0_atOnce 0 = .ok (.aload_n 0, 1) := dk_42 (dk_at dksX0_atOnce_0 0 rfl rfl)
theorem dX0_atOnce_1 : decode cX0_atOnce 1 = .ok (.invokevirtual 350, 3) := dk_182 1 94 (dk_at dksX0_atOnce_0 1 rfl rfl)
theorem dX0_atOnce_4 : decode cX0_atOnce 4 = .ok (.istore_n 1, 1) := dk_60 (dk_at dksX0_atOnce_0 4 rfl rfl)
theorem dX0_atOnce_5 : decode cX0_atOnce 5 = .ok (.iconst 0, 1) := dk_3 (dk_at dksX0_atOnce_0 5 rfl rfl)
theorem dX0_atOnce_6 : decode cX0_atOnce 6 = .ok (.istore_n 2, 1) := dk_61 (dk_at dksX0_atOnce_0 6 rfl rfl)
theorem dX0_atOnce_7 : decode cX0_atOnce 7 = .ok (.iconst 0, 1) := dk_3 (dk_at dksX0_atOnce_0 7 rfl rfl)
theorem dX0_atOnce_8 : decode cX0_atOnce 8 = .ok (.istore_n 3, 1) := dk_62 (dk_at dksX0_atOnce_0 8 rfl rfl)
theorem dX0_atOnce_9 : decode cX0_atOnce 9 = .ok (.iload_n 3, 1) := dk_29 (dk_at dksX0_atOnce_0 9 rfl rfl)
theorem dX0_atOnce_10 : decode cX0_atOnce 10 = .ok (.aload_n 0, 1) := dk_42 (dk_at dksX0_atOnce_0 10 rfl rfl)
theorem dX0_atOnce_11 : decode cX0_atOnce 11 = .ok (.invokevirtual 125, 3) := dk_182 0 125 (dk_at dksX0_atOnce_0 11 rfl rfl)
theorem dX0_atOnce_14 : decode cX0_atOnce 14 = .ok (.if_icmp .ge 32, 3) := dk_162 0 32 (dk_at dksX0_atOnce_0 14 rfl rfl)
theorem dX0_atOnce_17 : decode cX0_atOnce 17 = .ok (.iload_n 1, 1) := dk_27 (dk_at dksX0_atOnce_0 17 rfl rfl)
theorem dX0_atOnce_18 : decode cX0_atOnce 18 = .ok (.iload_n 3, 1) := dk_29 (dk_at dksX0_atOnce_0 18 rfl rfl)
theorem dX0_atOnce_19 : decode cX0_atOnce 19 = .ok (.invokestatic 141, 3) := dk_184 0 141 (dk_at dksX0_atOnce_0 19 rfl rfl)
theorem dX0_atOnce_22 : decode cX0_atOnce 22 = .ok (.ifCond .eq 16, 3) := dk_153 0 16 (dk_at dksX0_atOnce_1 0 rfl rfl)
theorem dX0_atOnce_25 : decode cX0_atOnce 25 = .ok (.iload_n 2, 1) := dk_28 (dk_at dksX0_atOnce_1 3 rfl rfl)
theorem dX0_atOnce_26 : decode cX0_atOnce 26 = .ok (.aload_n 0, 1) := dk_42 (dk_at dksX0_atOnce_1 4 rfl rfl)
theorem dX0_atOnce_27 : decode cX0_atOnce 27 = .ok (.iload_n 3, 1) := dk_29 (dk_at dksX0_atOnce_1 5 rfl rfl)
theorem dX0_atOnce_28 : decode cX0_atOnce 28 = .ok (.iload_n 1, 1) := dk_27 (dk_at dksX0_atOnce_1 6 rfl rfl)
theorem dX0_atOnce_29 : decode cX0_atOnce 29 = .ok (.invokevirtual 365, 3) := dk_182 1 109 (dk_at dksX0_atOnce_1 7 rfl rfl)
theorem dX0_atOnce_32 : decode cX0_atOnce 32 = .ok (.invokestatic 321, 3) := dk_184 1 65 (dk_at dksX0_atOnce_1 10 rfl rfl)
theorem dX0_atOnce_35 : decode cX0_atOnce 35 = .ok (.goto 4, 3) := dk_167 0 4 (dk_at dksX0_atOnce_1 13 rfl rfl)
theorem dX0_atOnce_38 : decode cX0_atOnce 38 = .ok (.iload_n 2, 1) := dk_28 (dk_at dksX0_atOnce_1 16 rfl rfl)
theorem dX0_atOnce_39 : decode cX0_atOnce 39 = .ok (.istore_n 2, 1) := dk_61 (dk_at dksX0_atOnce_1 17 rfl rfl)
theorem dX0_atOnce_40 : decode cX0_atOnce 40 = .ok (.iinc 3 1, 3) := dk_132 3 1 (dk_at dksX0_atOnce_1 18 rfl rfl)
theorem dX0_atOnce_43 : decode cX0_atOnce 43 = .ok (.goto (-34), 3) := dk_167 255 222 (dk_at dksX0_atOnce_1 21 rfl rfl)
theorem dX0_atOnce_46 : decode cX0_atOnce 46 = .ok (.iload_n 2, 1) := dk_28 (dk_at dksX0_atOnce_2 0 rfl rfl)
theorem dX0_atOnce_47 : decode cX0_atOnce 47 = .ok (.ireturn, 1) := dk_172 (dk_at dksX0_atOnce_2 1 rfl rfl)
abbrev cX0_readBy : ByteArray := prog_1_method_67_code
def yX0_readBy : MethodName := ⟨RX0, "readBy", "(II)I"⟩
def dkwX0_readBy_2 : List UInt8 := [62, 132, 4, 1, 167, 255, 209, 29, 42, 180, 0, 10, 180, 0, 159, 27, 46, 96, 172]
abbrev dktX0_readBy_2 : List UInt8 := dkwX0_readBy_2 ++ []
def dkwX0_readBy_1 : List UInt8 := [126, 21, 4, 184, 0, 141, 153, 0, 17, 29, 42, 21, 4, 28, 182, 1, 109, 184, 1, 65, 167, 0, 4, 29]
abbrev dktX0_readBy_1 : List UInt8 := dkwX0_readBy_1 ++ dktX0_readBy_2
def dkwX0_readBy_0 : List UInt8 := [3, 62, 3, 54, 4, 21, 4, 42, 182, 0, 125, 162, 0, 44, 42, 180, 0, 10, 180, 0, 145, 27, 46, 28]
abbrev dktX0_readBy_0 : List UInt8 := dkwX0_readBy_0 ++ dktX0_readBy_1
theorem dksX0_readBy_0 : cX0_readBy.data.toList.drop 0 = dktX0_readBy_0 := by decide +kernel
theorem dksX0_readBy_1 : cX0_readBy.data.toList.drop 24 = dktX0_readBy_1 := dk_seg dksX0_readBy_0 24 rfl rfl
theorem dksX0_readBy_2 : cX0_readBy.data.toList.drop 48 = dktX0_readBy_2 := dk_seg dksX0_readBy_1 24 rfl rfl
theorem dX0_readBy_0 : decode cX0_readBy 0 = .ok (.iconst 0, 1) := dk_3 (dk_at dksX0_readBy_0 0 rfl rfl)
theorem dX0_readBy_1 : decode cX0_readBy 1 = .ok (.istore_n 3, 1) := dk_62 (dk_at dksX0_readBy_0 1 rfl rfl)
theorem dX0_readBy_2 : decode cX0_readBy 2 = .ok (.iconst 0, 1) := dk_3 (dk_at dksX0_readBy_0 2 rfl rfl)
theorem dX0_readBy_3 : decode cX0_readBy 3 = .ok (.istore 4, 2) := dk_54 4 (dk_at dksX0_readBy_0 3 rfl rfl)
theorem dX0_readBy_5 : decode cX0_readBy 5 = .ok (.iload 4, 2) := dk_21 4 (dk_at dksX0_readBy_0 5 rfl rfl)
theorem dX0_readBy_7 : decode cX0_readBy 7 = .ok (.aload_n 0, 1) := dk_42 (dk_at dksX0_readBy_0 7 rfl rfl)
theorem dX0_readBy_8 : decode cX0_readBy 8 = .ok (.invokevirtual 125, 3) := dk_182 0 125 (dk_at dksX0_readBy_0 8 rfl rfl)
theorem dX0_readBy_11 : decode cX0_readBy 11 = .ok (.if_icmp .ge 44, 3) := dk_162 0 44 (dk_at dksX0_readBy_0 11 rfl rfl)
theorem dX0_readBy_14 : decode cX0_readBy 14 = .ok (.aload_n 0, 1) := dk_42 (dk_at dksX0_readBy_0 14 rfl rfl)
theorem dX0_readBy_15 : decode cX0_readBy 15 = .ok (.getfield 10, 3) := dk_180 0 10 (dk_at dksX0_readBy_0 15 rfl rfl)
theorem dX0_readBy_18 : decode cX0_readBy 18 = .ok (.getfield 145, 3) := dk_180 0 145 (dk_at dksX0_readBy_0 18 rfl rfl)
theorem dX0_readBy_21 : decode cX0_readBy 21 = .ok (.iload_n 1, 1) := dk_27 (dk_at dksX0_readBy_0 21 rfl rfl)
theorem dX0_readBy_22 : decode cX0_readBy 22 = .ok (.iaload, 1) := dk_46 (dk_at dksX0_readBy_0 22 rfl rfl)
theorem dX0_readBy_23 : decode cX0_readBy 23 = .ok (.iload_n 2, 1) := dk_28 (dk_at dksX0_readBy_0 23 rfl rfl)
theorem dX0_readBy_24 : decode cX0_readBy 24 = .ok (.iand, 1) := dk_126 (dk_at dksX0_readBy_1 0 rfl rfl)
theorem dX0_readBy_25 : decode cX0_readBy 25 = .ok (.iload 4, 2) := dk_21 4 (dk_at dksX0_readBy_1 1 rfl rfl)
theorem dX0_readBy_27 : decode cX0_readBy 27 = .ok (.invokestatic 141, 3) := dk_184 0 141 (dk_at dksX0_readBy_1 3 rfl rfl)
theorem dX0_readBy_30 : decode cX0_readBy 30 = .ok (.ifCond .eq 17, 3) := dk_153 0 17 (dk_at dksX0_readBy_1 6 rfl rfl)
theorem dX0_readBy_33 : decode cX0_readBy 33 = .ok (.iload_n 3, 1) := dk_29 (dk_at dksX0_readBy_1 9 rfl rfl)
theorem dX0_readBy_34 : decode cX0_readBy 34 = .ok (.aload_n 0, 1) := dk_42 (dk_at dksX0_readBy_1 10 rfl rfl)
theorem dX0_readBy_35 : decode cX0_readBy 35 = .ok (.iload 4, 2) := dk_21 4 (dk_at dksX0_readBy_1 11 rfl rfl)
theorem dX0_readBy_37 : decode cX0_readBy 37 = .ok (.iload_n 2, 1) := dk_28 (dk_at dksX0_readBy_1 13 rfl rfl)
theorem dX0_readBy_38 : decode cX0_readBy 38 = .ok (.invokevirtual 365, 3) := dk_182 1 109 (dk_at dksX0_readBy_1 14 rfl rfl)
theorem dX0_readBy_41 : decode cX0_readBy 41 = .ok (.invokestatic 321, 3) := dk_184 1 65 (dk_at dksX0_readBy_1 17 rfl rfl)
theorem dX0_readBy_44 : decode cX0_readBy 44 = .ok (.goto 4, 3) := dk_167 0 4 (dk_at dksX0_readBy_1 20 rfl rfl)
theorem dX0_readBy_47 : decode cX0_readBy 47 = .ok (.iload_n 3, 1) := dk_29 (dk_at dksX0_readBy_1 23 rfl rfl)
theorem dX0_readBy_48 : decode cX0_readBy 48 = .ok (.istore_n 3, 1) := dk_62 (dk_at dksX0_readBy_2 0 rfl rfl)
theorem dX0_readBy_49 : decode cX0_readBy 49 = .ok (.iinc 4 1, 3) := dk_132 4 1 (dk_at dksX0_readBy_2 1 rfl rfl)
theorem dX0_readBy_52 : decode cX0_readBy 52 = .ok (.goto (-47), 3) := dk_167 255 209 (dk_at dksX0_readBy_2 4 rfl rfl)
theorem dX0_readBy_55 : decode cX0_readBy 55 = .ok (.iload_n 3, 1) := dk_29 (dk_at dksX0_readBy_2 7 rfl rfl)
theorem dX0_readBy_56 : decode cX0_readBy 56 = .ok (.aload_n 0, 1) := dk_42 (dk_at dksX0_readBy_2 8 rfl rfl)
theorem dX0_readBy_57 : decode cX0_readBy 57 = .ok (.getfield 10, 3) := dk_180 0 10 (dk_at dksX0_readBy_2 9 rfl rfl)
theorem dX0_readBy_60 : decode cX0_readBy 60 = .ok (.getfield 159, 3) := dk_180 0 159 (dk_at dksX0_readBy_2 12 rfl rfl)
theorem dX0_readBy_63 : decode cX0_readBy 63 = .ok (.iload_n 1, 1) := dk_27 (dk_at dksX0_readBy_2 15 rfl rfl)
theorem dX0_readBy_64 : decode cX0_readBy 64 = .ok (.iaload, 1) := dk_46 (dk_at dksX0_readBy_2 16 rfl rfl)
theorem dX0_readBy_65 : decode cX0_readBy 65 = .ok (.iadd, 1) := dk_96 (dk_at dksX0_readBy_2 17 rfl rfl)
theorem dX0_readBy_66 : decode cX0_readBy 66 = .ok (.ireturn, 1) := dk_172 (dk_at dksX0_readBy_2 18 rfl rfl)
abbrev cX0_key : ByteArray := prog_1_method_69_code
def yX0_key : MethodName := ⟨RX0, "key", "(I)I"⟩
def dkwX0_key_6 : List UInt8 := [154, 0, 8, 21, 4, 167, 0, 4, 29, 172]
abbrev dktX0_key_6 : List UInt8 := dkwX0_key_6 ++ []
def dkwX0_key_5 : List UInt8 := [21, 4, 54, 4, 29, 21, 6, 184, 1, 65, 62, 132, 5, 1, 167, 255, 149, 21, 4, 2, 159, 0, 7, 27]
abbrev dktX0_key_5 : List UInt8 := dkwX0_key_5 ++ dktX0_key_6
def dkwX0_key_4 : List UInt8 := [167, 0, 4, 3, 96, 54, 6, 132, 7, 1, 167, 255, 204, 21, 6, 29, 164, 0, 8, 21, 5, 167, 0, 5]
abbrev dktX0_key_4 : List UInt8 := dkwX0_key_4 ++ dktX0_key_5
def dkwX0_key_3 : List UInt8 := [21, 7, 184, 0, 141, 153, 0, 21, 42, 21, 7, 182, 1, 85, 21, 5, 184, 0, 141, 153, 0, 7, 4]
abbrev dktX0_key_3 : List UInt8 := dkwX0_key_3 ++ dktX0_key_4
def dkwX0_key_2 : List UInt8 := [54, 6, 3, 54, 7, 21, 7, 42, 182, 0, 125, 162, 0, 49, 21, 6, 21, 7, 21, 5, 159, 0, 30, 28]
abbrev dktX0_key_2 : List UInt8 := dkwX0_key_2 ++ dktX0_key_3
def dkwX0_key_1 : List UInt8 := [54, 5, 21, 5, 42, 182, 0, 125, 162, 0, 104, 28, 21, 5, 184, 0, 141, 154, 0, 6, 167, 0, 86, 3]
abbrev dktX0_key_1 : List UInt8 := dkwX0_key_1 ++ dktX0_key_2
def dkwX0_key_0 : List UInt8 := [27, 133, 9, 10, 184, 0, 128, 154, 0, 5, 2, 172, 42, 182, 1, 94, 61, 2, 62, 2, 54, 4, 3]
abbrev dktX0_key_0 : List UInt8 := dkwX0_key_0 ++ dktX0_key_1
theorem dksX0_key_0 : cX0_key.data.toList.drop 0 = dktX0_key_0 := by decide +kernel
theorem dksX0_key_1 : cX0_key.data.toList.drop 23 = dktX0_key_1 := dk_seg dksX0_key_0 23 rfl rfl
theorem dksX0_key_2 : cX0_key.data.toList.drop 47 = dktX0_key_2 := dk_seg dksX0_key_1 24 rfl rfl
theorem dksX0_key_3 : cX0_key.data.toList.drop 71 = dktX0_key_3 := dk_seg dksX0_key_2 24 rfl rfl
theorem dksX0_key_4 : cX0_key.data.toList.drop 94 = dktX0_key_4 := dk_seg dksX0_key_3 23 rfl rfl
theorem dksX0_key_5 : cX0_key.data.toList.drop 118 = dktX0_key_5 := dk_seg dksX0_key_4 24 rfl rfl
theorem dksX0_key_6 : cX0_key.data.toList.drop 142 = dktX0_key_6 := dk_seg dksX0_key_5 24 rfl rfl
theorem dX0_key_0 : decode cX0_key 0 = .ok (.iload_n 1, 1) := dk_27 (dk_at dksX0_key_0 0 rfl rfl)
theorem dX0_key_1 : decode cX0_key 1 = .ok (.i2l, 1) := dk_133 (dk_at dksX0_key_0 1 rfl rfl)
theorem dX0_key_2 : decode cX0_key 2 = .ok (.lconst 0, 1) := dk_9 (dk_at dksX0_key_0 2 rfl rfl)
theorem dX0_key_3 : decode cX0_key 3 = .ok (.lconst 1, 1) := dk_10 (dk_at dksX0_key_0 3 rfl rfl)
theorem dX0_key_4 : decode cX0_key 4 = .ok (.invokestatic 128, 3) := dk_184 0 128 (dk_at dksX0_key_0 4 rfl rfl)
theorem dX0_key_7 : decode cX0_key 7 = .ok (.ifCond .ne 5, 3) := dk_154 0 5 (dk_at dksX0_key_0 7 rfl rfl)
theorem dX0_key_10 : decode cX0_key 10 = .ok (.iconst (-1), 1) := dk_2 (dk_at dksX0_key_0 10 rfl rfl)
theorem dX0_key_11 : decode cX0_key 11 = .ok (.ireturn, 1) := dk_172 (dk_at dksX0_key_0 11 rfl rfl)
theorem dX0_key_12 : decode cX0_key 12 = .ok (.aload_n 0, 1) := dk_42 (dk_at dksX0_key_0 12 rfl rfl)
theorem dX0_key_13 : decode cX0_key 13 = .ok (.invokevirtual 350, 3) := dk_182 1 94 (dk_at dksX0_key_0 13 rfl rfl)
theorem dX0_key_16 : decode cX0_key 16 = .ok (.istore_n 2, 1) := dk_61 (dk_at dksX0_key_0 16 rfl rfl)
theorem dX0_key_17 : decode cX0_key 17 = .ok (.iconst (-1), 1) := dk_2 (dk_at dksX0_key_0 17 rfl rfl)
theorem dX0_key_18 : decode cX0_key 18 = .ok (.istore_n 3, 1) := dk_62 (dk_at dksX0_key_0 18 rfl rfl)
theorem dX0_key_19 : decode cX0_key 19 = .ok (.iconst (-1), 1) := dk_2 (dk_at dksX0_key_0 19 rfl rfl)
theorem dX0_key_20 : decode cX0_key 20 = .ok (.istore 4, 2) := dk_54 4 (dk_at dksX0_key_0 20 rfl rfl)
theorem dX0_key_22 : decode cX0_key 22 = .ok (.iconst 0, 1) := dk_3 (dk_at dksX0_key_0 22 rfl rfl)
theorem dX0_key_23 : decode cX0_key 23 = .ok (.istore 5, 2) := dk_54 5 (dk_at dksX0_key_1 0 rfl rfl)
theorem dX0_key_25 : decode cX0_key 25 = .ok (.iload 5, 2) := dk_21 5 (dk_at dksX0_key_1 2 rfl rfl)
theorem dX0_key_27 : decode cX0_key 27 = .ok (.aload_n 0, 1) := dk_42 (dk_at dksX0_key_1 4 rfl rfl)
theorem dX0_key_28 : decode cX0_key 28 = .ok (.invokevirtual 125, 3) := dk_182 0 125 (dk_at dksX0_key_1 5 rfl rfl)
theorem dX0_key_31 : decode cX0_key 31 = .ok (.if_icmp .ge 104, 3) := dk_162 0 104 (dk_at dksX0_key_1 8 rfl rfl)
theorem dX0_key_34 : decode cX0_key 34 = .ok (.iload_n 2, 1) := dk_28 (dk_at dksX0_key_1 11 rfl rfl)
theorem dX0_key_35 : decode cX0_key 35 = .ok (.iload 5, 2) := dk_21 5 (dk_at dksX0_key_1 12 rfl rfl)
theorem dX0_key_37 : decode cX0_key 37 = .ok (.invokestatic 141, 3) := dk_184 0 141 (dk_at dksX0_key_1 14 rfl rfl)
theorem dX0_key_40 : decode cX0_key 40 = .ok (.ifCond .ne 6, 3) := dk_154 0 6 (dk_at dksX0_key_1 17 rfl rfl)
theorem dX0_key_43 : decode cX0_key 43 = .ok (.goto 86, 3) := dk_167 0 86 (dk_at dksX0_key_1 20 rfl rfl)
theorem dX0_key_46 : decode cX0_key 46 = .ok (.iconst 0, 1) := dk_3 (dk_at dksX0_key_1 23 rfl rfl)
theorem dX0_key_47 : decode cX0_key 47 = .ok (.istore 6, 2) := dk_54 6 (dk_at dksX0_key_2 0 rfl rfl)
theorem dX0_key_49 : decode cX0_key 49 = .ok (.iconst 0, 1) := dk_3 (dk_at dksX0_key_2 2 rfl rfl)
theorem dX0_key_50 : decode cX0_key 50 = .ok (.istore 7, 2) := dk_54 7 (dk_at dksX0_key_2 3 rfl rfl)
theorem dX0_key_52 : decode cX0_key 52 = .ok (.iload 7, 2) := dk_21 7 (dk_at dksX0_key_2 5 rfl rfl)
theorem dX0_key_54 : decode cX0_key 54 = .ok (.aload_n 0, 1) := dk_42 (dk_at dksX0_key_2 7 rfl rfl)
theorem dX0_key_55 : decode cX0_key 55 = .ok (.invokevirtual 125, 3) := dk_182 0 125 (dk_at dksX0_key_2 8 rfl rfl)
theorem dX0_key_58 : decode cX0_key 58 = .ok (.if_icmp .ge 49, 3) := dk_162 0 49 (dk_at dksX0_key_2 11 rfl rfl)
theorem dX0_key_61 : decode cX0_key 61 = .ok (.iload 6, 2) := dk_21 6 (dk_at dksX0_key_2 14 rfl rfl)
theorem dX0_key_63 : decode cX0_key 63 = .ok (.iload 7, 2) := dk_21 7 (dk_at dksX0_key_2 16 rfl rfl)
theorem dX0_key_65 : decode cX0_key 65 = .ok (.iload 5, 2) := dk_21 5 (dk_at dksX0_key_2 18 rfl rfl)
theorem dX0_key_67 : decode cX0_key 67 = .ok (.if_icmp .eq 30, 3) := dk_159 0 30 (dk_at dksX0_key_2 20 rfl rfl)
theorem dX0_key_70 : decode cX0_key 70 = .ok (.iload_n 2, 1) := dk_28 (dk_at dksX0_key_2 23 rfl rfl)
theorem dX0_key_71 : decode cX0_key 71 = .ok (.iload 7, 2) := dk_21 7 (dk_at dksX0_key_3 0 rfl rfl)
theorem dX0_key_73 : decode cX0_key 73 = .ok (.invokestatic 141, 3) := dk_184 0 141 (dk_at dksX0_key_3 2 rfl rfl)
theorem dX0_key_76 : decode cX0_key 76 = .ok (.ifCond .eq 21, 3) := dk_153 0 21 (dk_at dksX0_key_3 5 rfl rfl)
theorem dX0_key_79 : decode cX0_key 79 = .ok (.aload_n 0, 1) := dk_42 (dk_at dksX0_key_3 8 rfl rfl)
theorem dX0_key_80 : decode cX0_key 80 = .ok (.iload 7, 2) := dk_21 7 (dk_at dksX0_key_3 9 rfl rfl)
theorem dX0_key_82 : decode cX0_key 82 = .ok (.invokevirtual 341, 3) := dk_182 1 85 (dk_at dksX0_key_3 11 rfl rfl)
theorem dX0_key_85 : decode cX0_key 85 = .ok (.iload 5, 2) := dk_21 5 (dk_at dksX0_key_3 14 rfl rfl)
theorem dX0_key_87 : decode cX0_key 87 = .ok (.invokestatic 141, 3) := dk_184 0 141 (dk_at dksX0_key_3 16 rfl rfl)
theorem dX0_key_90 : decode cX0_key 90 = .ok (.ifCond .eq 7, 3) := dk_153 0 7 (dk_at dksX0_key_3 19 rfl rfl)
theorem dX0_key_93 : decode cX0_key 93 = .ok (.iconst 1, 1) := dk_4 (dk_at dksX0_key_3 22 rfl rfl)
theorem dX0_key_94 : decode cX0_key 94 = .ok (.goto 4, 3) := dk_167 0 4 (dk_at dksX0_key_4 0 rfl rfl)
theorem dX0_key_97 : decode cX0_key 97 = .ok (.iconst 0, 1) := dk_3 (dk_at dksX0_key_4 3 rfl rfl)
theorem dX0_key_98 : decode cX0_key 98 = .ok (.iadd, 1) := dk_96 (dk_at dksX0_key_4 4 rfl rfl)
theorem dX0_key_99 : decode cX0_key 99 = .ok (.istore 6, 2) := dk_54 6 (dk_at dksX0_key_4 5 rfl rfl)
theorem dX0_key_101 : decode cX0_key 101 = .ok (.iinc 7 1, 3) := dk_132 7 1 (dk_at dksX0_key_4 7 rfl rfl)
theorem dX0_key_104 : decode cX0_key 104 = .ok (.goto (-52), 3) := dk_167 255 204 (dk_at dksX0_key_4 10 rfl rfl)
theorem dX0_key_107 : decode cX0_key 107 = .ok (.iload 6, 2) := dk_21 6 (dk_at dksX0_key_4 13 rfl rfl)
theorem dX0_key_109 : decode cX0_key 109 = .ok (.iload_n 3, 1) := dk_29 (dk_at dksX0_key_4 15 rfl rfl)
theorem dX0_key_110 : decode cX0_key 110 = .ok (.if_icmp .le 8, 3) := dk_164 0 8 (dk_at dksX0_key_4 16 rfl rfl)
theorem dX0_key_113 : decode cX0_key 113 = .ok (.iload 5, 2) := dk_21 5 (dk_at dksX0_key_4 19 rfl rfl)
theorem dX0_key_115 : decode cX0_key 115 = .ok (.goto 5, 3) := dk_167 0 5 (dk_at dksX0_key_4 21 rfl rfl)
theorem dX0_key_118 : decode cX0_key 118 = .ok (.iload 4, 2) := dk_21 4 (dk_at dksX0_key_5 0 rfl rfl)
theorem dX0_key_120 : decode cX0_key 120 = .ok (.istore 4, 2) := dk_54 4 (dk_at dksX0_key_5 2 rfl rfl)
theorem dX0_key_122 : decode cX0_key 122 = .ok (.iload_n 3, 1) := dk_29 (dk_at dksX0_key_5 4 rfl rfl)
theorem dX0_key_123 : decode cX0_key 123 = .ok (.iload 6, 2) := dk_21 6 (dk_at dksX0_key_5 5 rfl rfl)
theorem dX0_key_125 : decode cX0_key 125 = .ok (.invokestatic 321, 3) := dk_184 1 65 (dk_at dksX0_key_5 7 rfl rfl)
theorem dX0_key_128 : decode cX0_key 128 = .ok (.istore_n 3, 1) := dk_62 (dk_at dksX0_key_5 10 rfl rfl)
theorem dX0_key_129 : decode cX0_key 129 = .ok (.iinc 5 1, 3) := dk_132 5 1 (dk_at dksX0_key_5 11 rfl rfl)
theorem dX0_key_132 : decode cX0_key 132 = .ok (.goto (-107), 3) := dk_167 255 149 (dk_at dksX0_key_5 14 rfl rfl)
theorem dX0_key_135 : decode cX0_key 135 = .ok (.iload 4, 2) := dk_21 4 (dk_at dksX0_key_5 17 rfl rfl)
theorem dX0_key_137 : decode cX0_key 137 = .ok (.iconst (-1), 1) := dk_2 (dk_at dksX0_key_5 19 rfl rfl)
theorem dX0_key_138 : decode cX0_key 138 = .ok (.if_icmp .eq 7, 3) := dk_159 0 7 (dk_at dksX0_key_5 20 rfl rfl)
theorem dX0_key_141 : decode cX0_key 141 = .ok (.iload_n 1, 1) := dk_27 (dk_at dksX0_key_5 23 rfl rfl)
theorem dX0_key_142 : decode cX0_key 142 = .ok (.ifCond .ne 8, 3) := dk_154 0 8 (dk_at dksX0_key_6 0 rfl rfl)
theorem dX0_key_145 : decode cX0_key 145 = .ok (.iload 4, 2) := dk_21 4 (dk_at dksX0_key_6 3 rfl rfl)
theorem dX0_key_147 : decode cX0_key 147 = .ok (.goto 4, 3) := dk_167 0 4 (dk_at dksX0_key_6 5 rfl rfl)
theorem dX0_key_150 : decode cX0_key 150 = .ok (.iload_n 3, 1) := dk_29 (dk_at dksX0_key_6 8 rfl rfl)
theorem dX0_key_151 : decode cX0_key 151 = .ok (.ireturn, 1) := dk_172 (dk_at dksX0_key_6 9 rfl rfl)
abbrev cX0_tallest : ByteArray := prog_1_method_71_code
def yX0_tallest : MethodName := ⟨RX0, "tallest", "(III)I"⟩
def dkwX0_tallest_3 : List UInt8 := [180, 0, 85, 29, 46, 167, 0, 4, 2, 172]
abbrev dktX0_tallest_3 : List UInt8 := dkwX0_tallest_3 ++ []
def dkwX0_tallest_2 : List UInt8 := [182, 1, 121, 29, 2, 160, 0, 10, 42, 180, 1, 112, 167, 0, 21, 29, 42, 180, 1, 115, 162, 0, 12, 42]
abbrev dktX0_tallest_2 : List UInt8 := dkwX0_tallest_2 ++ dktX0_tallest_3
def dkwX0_tallest_1 : List UInt8 := [162, 0, 5, 2, 172, 42, 28, 181, 1, 118, 42, 2, 181, 1, 112, 42, 3, 181, 1, 115, 42, 27, 3, 3]
abbrev dktX0_tallest_1 : List UInt8 := dkwX0_tallest_1 ++ dktX0_tallest_2
def dkwX0_tallest_0 : List UInt8 := [42, 27, 182, 0, 191, 153, 0, 20, 28, 133, 9, 20, 1, 125, 184, 0, 128, 153, 0, 8, 29, 2]
abbrev dktX0_tallest_0 : List UInt8 := dkwX0_tallest_0 ++ dktX0_tallest_1
theorem dksX0_tallest_0 : cX0_tallest.data.toList.drop 0 = dktX0_tallest_0 := by decide +kernel
theorem dksX0_tallest_1 : cX0_tallest.data.toList.drop 22 = dktX0_tallest_1 := dk_seg dksX0_tallest_0 22 rfl rfl
theorem dksX0_tallest_2 : cX0_tallest.data.toList.drop 46 = dktX0_tallest_2 := dk_seg dksX0_tallest_1 24 rfl rfl
theorem dksX0_tallest_3 : cX0_tallest.data.toList.drop 70 = dktX0_tallest_3 := dk_seg dksX0_tallest_2 24 rfl rfl
theorem dX0_tallest_0 : decode cX0_tallest 0 = .ok (.aload_n 0, 1) := dk_42 (dk_at dksX0_tallest_0 0 rfl rfl)
theorem dX0_tallest_1 : decode cX0_tallest 1 = .ok (.iload_n 1, 1) := dk_27 (dk_at dksX0_tallest_0 1 rfl rfl)
theorem dX0_tallest_2 : decode cX0_tallest 2 = .ok (.invokevirtual 191, 3) := dk_182 0 191 (dk_at dksX0_tallest_0 2 rfl rfl)
theorem dX0_tallest_5 : decode cX0_tallest 5 = .ok (.ifCond .eq 20, 3) := dk_153 0 20 (dk_at dksX0_tallest_0 5 rfl rfl)
theorem dX0_tallest_8 : decode cX0_tallest 8 = .ok (.iload_n 2, 1) := dk_28 (dk_at dksX0_tallest_0 8 rfl rfl)
theorem dX0_tallest_9 : decode cX0_tallest 9 = .ok (.i2l, 1) := dk_133 (dk_at dksX0_tallest_0 9 rfl rfl)
theorem dX0_tallest_10 : decode cX0_tallest 10 = .ok (.lconst 0, 1) := dk_9 (dk_at dksX0_tallest_0 10 rfl rfl)
theorem dX0_tallest_11 : decode cX0_tallest 11 = .ok (.ldc2_w 381, 3) := dk_20 1 125 (dk_at dksX0_tallest_0 11 rfl rfl)
theorem dX0_tallest_14 : decode cX0_tallest 14 = .ok (.invokestatic 128, 3) := dk_184 0 128 (dk_at dksX0_tallest_0 14 rfl rfl)
theorem dX0_tallest_17 : decode cX0_tallest 17 = .ok (.ifCond .eq 8, 3) := dk_153 0 8 (dk_at dksX0_tallest_0 17 rfl rfl)
theorem dX0_tallest_20 : decode cX0_tallest 20 = .ok (.iload_n 3, 1) := dk_29 (dk_at dksX0_tallest_0 20 rfl rfl)
theorem dX0_tallest_21 : decode cX0_tallest 21 = .ok (.iconst (-1), 1) := dk_2 (dk_at dksX0_tallest_0 21 rfl rfl)
theorem dX0_tallest_22 : decode cX0_tallest 22 = .ok (.if_icmp .ge 5, 3) := dk_162 0 5 (dk_at dksX0_tallest_1 0 rfl rfl)
theorem dX0_tallest_25 : decode cX0_tallest 25 = .ok (.iconst (-1), 1) := dk_2 (dk_at dksX0_tallest_1 3 rfl rfl)
theorem dX0_tallest_26 : decode cX0_tallest 26 = .ok (.ireturn, 1) := dk_172 (dk_at dksX0_tallest_1 4 rfl rfl)
theorem dX0_tallest_27 : decode cX0_tallest 27 = .ok (.aload_n 0, 1) := dk_42 (dk_at dksX0_tallest_1 5 rfl rfl)
theorem dX0_tallest_28 : decode cX0_tallest 28 = .ok (.iload_n 2, 1) := dk_28 (dk_at dksX0_tallest_1 6 rfl rfl)
theorem dX0_tallest_29 : decode cX0_tallest 29 = .ok (.putfield 374, 3) := dk_181 1 118 (dk_at dksX0_tallest_1 7 rfl rfl)
theorem dX0_tallest_32 : decode cX0_tallest 32 = .ok (.aload_n 0, 1) := dk_42 (dk_at dksX0_tallest_1 10 rfl rfl)
theorem dX0_tallest_33 : decode cX0_tallest 33 = .ok (.iconst (-1), 1) := dk_2 (dk_at dksX0_tallest_1 11 rfl rfl)
theorem dX0_tallest_34 : decode cX0_tallest 34 = .ok (.putfield 368, 3) := dk_181 1 112 (dk_at dksX0_tallest_1 12 rfl rfl)
theorem dX0_tallest_37 : decode cX0_tallest 37 = .ok (.aload_n 0, 1) := dk_42 (dk_at dksX0_tallest_1 15 rfl rfl)
theorem dX0_tallest_38 : decode cX0_tallest 38 = .ok (.iconst 0, 1) := dk_3 (dk_at dksX0_tallest_1 16 rfl rfl)
theorem dX0_tallest_39 : decode cX0_tallest 39 = .ok (.putfield 371, 3) := dk_181 1 115 (dk_at dksX0_tallest_1 17 rfl rfl)
theorem dX0_tallest_42 : decode cX0_tallest 42 = .ok (.aload_n 0, 1) := dk_42 (dk_at dksX0_tallest_1 20 rfl rfl)
theorem dX0_tallest_43 : decode cX0_tallest 43 = .ok (.iload_n 1, 1) := dk_27 (dk_at dksX0_tallest_1 21 rfl rfl)
theorem dX0_tallest_44 : decode cX0_tallest 44 = .ok (.iconst 0, 1) := dk_3 (dk_at dksX0_tallest_1 22 rfl rfl)
theorem dX0_tallest_45 : decode cX0_tallest 45 = .ok (.iconst 0, 1) := dk_3 (dk_at dksX0_tallest_1 23 rfl rfl)
theorem dX0_tallest_46 : decode cX0_tallest 46 = .ok (.invokevirtual 377, 3) := dk_182 1 121 (dk_at dksX0_tallest_2 0 rfl rfl)
theorem dX0_tallest_49 : decode cX0_tallest 49 = .ok (.iload_n 3, 1) := dk_29 (dk_at dksX0_tallest_2 3 rfl rfl)
theorem dX0_tallest_50 : decode cX0_tallest 50 = .ok (.iconst (-1), 1) := dk_2 (dk_at dksX0_tallest_2 4 rfl rfl)
theorem dX0_tallest_51 : decode cX0_tallest 51 = .ok (.if_icmp .ne 10, 3) := dk_160 0 10 (dk_at dksX0_tallest_2 5 rfl rfl)
theorem dX0_tallest_54 : decode cX0_tallest 54 = .ok (.aload_n 0, 1) := dk_42 (dk_at dksX0_tallest_2 8 rfl rfl)
theorem dX0_tallest_55 : decode cX0_tallest 55 = .ok (.getfield 368, 3) := dk_180 1 112 (dk_at dksX0_tallest_2 9 rfl rfl)
theorem dX0_tallest_58 : decode cX0_tallest 58 = .ok (.goto 21, 3) := dk_167 0 21 (dk_at dksX0_tallest_2 12 rfl rfl)
theorem dX0_tallest_61 : decode cX0_tallest 61 = .ok (.iload_n 3, 1) := dk_29 (dk_at dksX0_tallest_2 15 rfl rfl)
theorem dX0_tallest_62 : decode cX0_tallest 62 = .ok (.aload_n 0, 1) := dk_42 (dk_at dksX0_tallest_2 16 rfl rfl)
theorem dX0_tallest_63 : decode cX0_tallest 63 = .ok (.getfield 371, 3) := dk_180 1 115 (dk_at dksX0_tallest_2 17 rfl rfl)
theorem dX0_tallest_66 : decode cX0_tallest 66 = .ok (.if_icmp .ge 12, 3) := dk_162 0 12 (dk_at dksX0_tallest_2 20 rfl rfl)
theorem dX0_tallest_69 : decode cX0_tallest 69 = .ok (.aload_n 0, 1) := dk_42 (dk_at dksX0_tallest_2 23 rfl rfl)
theorem dX0_tallest_70 : decode cX0_tallest 70 = .ok (.getfield 85, 3) := dk_180 0 85 (dk_at dksX0_tallest_3 0 rfl rfl)
theorem dX0_tallest_73 : decode cX0_tallest 73 = .ok (.iload_n 3, 1) := dk_29 (dk_at dksX0_tallest_3 3 rfl rfl)
theorem dX0_tallest_74 : decode cX0_tallest 74 = .ok (.iaload, 1) := dk_46 (dk_at dksX0_tallest_3 4 rfl rfl)
theorem dX0_tallest_75 : decode cX0_tallest 75 = .ok (.goto 4, 3) := dk_167 0 4 (dk_at dksX0_tallest_3 5 rfl rfl)
theorem dX0_tallest_78 : decode cX0_tallest 78 = .ok (.iconst (-1), 1) := dk_2 (dk_at dksX0_tallest_3 8 rfl rfl)
theorem dX0_tallest_79 : decode cX0_tallest 79 = .ok (.ireturn, 1) := dk_172 (dk_at dksX0_tallest_3 9 rfl rfl)
abbrev cX0_grow : ByteArray := prog_1_method_70_code
def yX0_grow : MethodName := ⟨RX0, "grow", "(III)V"⟩
def dkwX0_grow_10 : List UInt8 := [182, 0, 135, 180, 0, 188, 27, 21, 5, 79, 132, 4, 1, 167, 255, 60, 177]
abbrev dktX0_grow_10 : List UInt8 := dkwX0_grow_10 ++ []
def dkwX0_grow_9 : List UInt8 := [181, 0, 204, 42, 182, 0, 135, 89, 180, 0, 138, 4, 21, 4, 120, 2, 130, 126, 181, 0, 138, 42]
abbrev dktX0_grow_9 : List UInt8 := dkwX0_grow_9 ++ dktX0_grow_10
def dkwX0_grow_8 : List UInt8 := [182, 1, 121, 42, 182, 0, 135, 89, 180, 0, 204, 42, 180, 0, 10, 180, 0, 159, 21, 4, 46, 100]
abbrev dktX0_grow_8 : List UInt8 := dkwX0_grow_8 ++ dktX0_grow_9
def dkwX0_grow_7 : List UInt8 := [180, 0, 82, 28, 21, 4, 79, 42, 27, 28, 4, 96, 29, 42, 180, 0, 10, 180, 0, 159, 21, 4, 46, 96]
abbrev dktX0_grow_7 : List UInt8 := dkwX0_grow_7 ++ dktX0_grow_8
def dkwX0_grow_6 : List UInt8 := [42, 182, 0, 135, 89, 180, 0, 204, 42, 180, 0, 10, 180, 0, 159, 21, 4, 46, 96, 181, 0, 204, 42]
abbrev dktX0_grow_6 : List UInt8 := dkwX0_grow_6 ++ dktX0_grow_7
def dkwX0_grow_5 : List UInt8 := [182, 0, 197, 96, 184, 0, 100, 79, 42, 182, 0, 135, 89, 180, 0, 138, 4, 21, 4, 120, 128, 181, 0, 138]
abbrev dktX0_grow_5 : List UInt8 := dkwX0_grow_5 ++ dktX0_grow_6
def dkwX0_grow_4 : List UInt8 := [180, 0, 188, 27, 46, 54, 5, 42, 182, 0, 135, 180, 0, 188, 27, 17, 3, 231, 21, 5, 42, 27, 21, 4]
abbrev dktX0_grow_4 : List UInt8 := dkwX0_grow_4 ++ dktX0_grow_5
def dkwX0_grow_3 : List UInt8 := [42, 180, 1, 118, 163, 0, 168, 42, 21, 4, 182, 1, 40, 154, 0, 6, 167, 0, 156, 42, 182, 0, 135]
abbrev dktX0_grow_3 : List UInt8 := dkwX0_grow_3 ++ dktX0_grow_4
def dkwX0_grow_2 : List UInt8 := [3, 54, 4, 21, 4, 42, 182, 0, 125, 162, 0, 193, 29, 42, 180, 0, 10, 180, 0, 159, 21, 4, 46, 96]
abbrev dktX0_grow_2 : List UInt8 := dkwX0_grow_2 ++ dktX0_grow_3
def dkwX0_grow_1 : List UInt8 := [27, 46, 181, 1, 112, 42, 28, 181, 1, 115, 42, 180, 0, 82, 3, 42, 180, 0, 85, 3, 28, 184, 0, 219]
abbrev dktX0_grow_1 : List UInt8 := dkwX0_grow_1 ++ dktX0_grow_2
def dkwX0_grow_0 : List UInt8 := [42, 182, 0, 135, 180, 0, 188, 27, 46, 42, 180, 1, 112, 164, 0, 35, 42, 42, 182, 0, 135, 180, 0, 188]
abbrev dktX0_grow_0 : List UInt8 := dkwX0_grow_0 ++ dktX0_grow_1
theorem dksX0_grow_0 : cX0_grow.data.toList.drop 0 = dktX0_grow_0 := by decide +kernel
theorem dksX0_grow_1 : cX0_grow.data.toList.drop 24 = dktX0_grow_1 := dk_seg dksX0_grow_0 24 rfl rfl
theorem dksX0_grow_2 : cX0_grow.data.toList.drop 48 = dktX0_grow_2 := dk_seg dksX0_grow_1 24 rfl rfl
theorem dksX0_grow_3 : cX0_grow.data.toList.drop 72 = dktX0_grow_3 := dk_seg dksX0_grow_2 24 rfl rfl
theorem dksX0_grow_4 : cX0_grow.data.toList.drop 95 = dktX0_grow_4 := dk_seg dksX0_grow_3 23 rfl rfl
theorem dksX0_grow_5 : cX0_grow.data.toList.drop 119 = dktX0_grow_5 := dk_seg dksX0_grow_4 24 rfl rfl
theorem dksX0_grow_6 : cX0_grow.data.toList.drop 143 = dktX0_grow_6 := dk_seg dksX0_grow_5 24 rfl rfl
theorem dksX0_grow_7 : cX0_grow.data.toList.drop 166 = dktX0_grow_7 := dk_seg dksX0_grow_6 23 rfl rfl
theorem dksX0_grow_8 : cX0_grow.data.toList.drop 190 = dktX0_grow_8 := dk_seg dksX0_grow_7 24 rfl rfl
theorem dksX0_grow_9 : cX0_grow.data.toList.drop 212 = dktX0_grow_9 := dk_seg dksX0_grow_8 22 rfl rfl
theorem dksX0_grow_10 : cX0_grow.data.toList.drop 234 = dktX0_grow_10 := dk_seg dksX0_grow_9 22 rfl rfl
theorem dX0_grow_0 : decode cX0_grow 0 = .ok (.aload_n 0, 1) := dk_42 (dk_at dksX0_grow_0 0 rfl rfl)
theorem dX0_grow_1 : decode cX0_grow 1 = .ok (.invokevirtual 135, 3) := dk_182 0 135 (dk_at dksX0_grow_0 1 rfl rfl)
theorem dX0_grow_4 : decode cX0_grow 4 = .ok (.getfield 188, 3) := dk_180 0 188 (dk_at dksX0_grow_0 4 rfl rfl)
theorem dX0_grow_7 : decode cX0_grow 7 = .ok (.iload_n 1, 1) := dk_27 (dk_at dksX0_grow_0 7 rfl rfl)
theorem dX0_grow_8 : decode cX0_grow 8 = .ok (.iaload, 1) := dk_46 (dk_at dksX0_grow_0 8 rfl rfl)
theorem dX0_grow_9 : decode cX0_grow 9 = .ok (.aload_n 0, 1) := dk_42 (dk_at dksX0_grow_0 9 rfl rfl)
theorem dX0_grow_10 : decode cX0_grow 10 = .ok (.getfield 368, 3) := dk_180 1 112 (dk_at dksX0_grow_0 10 rfl rfl)
theorem dX0_grow_13 : decode cX0_grow 13 = .ok (.if_icmp .le 35, 3) := dk_164 0 35 (dk_at dksX0_grow_0 13 rfl rfl)
theorem dX0_grow_16 : decode cX0_grow 16 = .ok (.aload_n 0, 1) := dk_42 (dk_at dksX0_grow_0 16 rfl rfl)
theorem dX0_grow_17 : decode cX0_grow 17 = .ok (.aload_n 0, 1) := dk_42 (dk_at dksX0_grow_0 17 rfl rfl)
theorem dX0_grow_18 : decode cX0_grow 18 = .ok (.invokevirtual 135, 3) := dk_182 0 135 (dk_at dksX0_grow_0 18 rfl rfl)
theorem dX0_grow_21 : decode cX0_grow 21 = .ok (.getfield 188, 3) := dk_180 0 188 (dk_at dksX0_grow_0 21 rfl rfl)
theorem dX0_grow_24 : decode cX0_grow 24 = .ok (.iload_n 1, 1) := dk_27 (dk_at dksX0_grow_1 0 rfl rfl)
theorem dX0_grow_25 : decode cX0_grow 25 = .ok (.iaload, 1) := dk_46 (dk_at dksX0_grow_1 1 rfl rfl)
theorem dX0_grow_26 : decode cX0_grow 26 = .ok (.putfield 368, 3) := dk_181 1 112 (dk_at dksX0_grow_1 2 rfl rfl)
theorem dX0_grow_29 : decode cX0_grow 29 = .ok (.aload_n 0, 1) := dk_42 (dk_at dksX0_grow_1 5 rfl rfl)
theorem dX0_grow_30 : decode cX0_grow 30 = .ok (.iload_n 2, 1) := dk_28 (dk_at dksX0_grow_1 6 rfl rfl)
theorem dX0_grow_31 : decode cX0_grow 31 = .ok (.putfield 371, 3) := dk_181 1 115 (dk_at dksX0_grow_1 7 rfl rfl)
theorem dX0_grow_34 : decode cX0_grow 34 = .ok (.aload_n 0, 1) := dk_42 (dk_at dksX0_grow_1 10 rfl rfl)
theorem dX0_grow_35 : decode cX0_grow 35 = .ok (.getfield 82, 3) := dk_180 0 82 (dk_at dksX0_grow_1 11 rfl rfl)
theorem dX0_grow_38 : decode cX0_grow 38 = .ok (.iconst 0, 1) := dk_3 (dk_at dksX0_grow_1 14 rfl rfl)
theorem dX0_grow_39 : decode cX0_grow 39 = .ok (.aload_n 0, 1) := dk_42 (dk_at dksX0_grow_1 15 rfl rfl)
theorem dX0_grow_40 : decode cX0_grow 40 = .ok (.getfield 85, 3) := dk_180 0 85 (dk_at dksX0_grow_1 16 rfl rfl)
theorem dX0_grow_43 : decode cX0_grow 43 = .ok (.iconst 0, 1) := dk_3 (dk_at dksX0_grow_1 19 rfl rfl)
theorem dX0_grow_44 : decode cX0_grow 44 = .ok (.iload_n 2, 1) := dk_28 (dk_at dksX0_grow_1 20 rfl rfl)
theorem dX0_grow_45 : decode cX0_grow 45 = .ok (.invokestatic 219, 3) := dk_184 0 219 (dk_at dksX0_grow_1 21 rfl rfl)
theorem dX0_grow_48 : decode cX0_grow 48 = .ok (.iconst 0, 1) := dk_3 (dk_at dksX0_grow_2 0 rfl rfl)
theorem dX0_grow_49 : decode cX0_grow 49 = .ok (.istore 4, 2) := dk_54 4 (dk_at dksX0_grow_2 1 rfl rfl)
theorem dX0_grow_51 : decode cX0_grow 51 = .ok (.iload 4, 2) := dk_21 4 (dk_at dksX0_grow_2 3 rfl rfl)
theorem dX0_grow_53 : decode cX0_grow 53 = .ok (.aload_n 0, 1) := dk_42 (dk_at dksX0_grow_2 5 rfl rfl)
theorem dX0_grow_54 : decode cX0_grow 54 = .ok (.invokevirtual 125, 3) := dk_182 0 125 (dk_at dksX0_grow_2 6 rfl rfl)
theorem dX0_grow_57 : decode cX0_grow 57 = .ok (.if_icmp .ge 193, 3) := dk_162 0 193 (dk_at dksX0_grow_2 9 rfl rfl)
theorem dX0_grow_60 : decode cX0_grow 60 = .ok (.iload_n 3, 1) := dk_29 (dk_at dksX0_grow_2 12 rfl rfl)
theorem dX0_grow_61 : decode cX0_grow 61 = .ok (.aload_n 0, 1) := dk_42 (dk_at dksX0_grow_2 13 rfl rfl)
theorem dX0_grow_62 : decode cX0_grow 62 = .ok (.getfield 10, 3) := dk_180 0 10 (dk_at dksX0_grow_2 14 rfl rfl)
theorem dX0_grow_65 : decode cX0_grow 65 = .ok (.getfield 159, 3) := dk_180 0 159 (dk_at dksX0_grow_2 17 rfl rfl)
theorem dX0_grow_68 : decode cX0_grow 68 = .ok (.iload 4, 2) := dk_21 4 (dk_at dksX0_grow_2 20 rfl rfl)
theorem dX0_grow_70 : decode cX0_grow 70 = .ok (.iaload, 1) := dk_46 (dk_at dksX0_grow_2 22 rfl rfl)
theorem dX0_grow_71 : decode cX0_grow 71 = .ok (.iadd, 1) := dk_96 (dk_at dksX0_grow_2 23 rfl rfl)
theorem dX0_grow_72 : decode cX0_grow 72 = .ok (.aload_n 0, 1) := dk_42 (dk_at dksX0_grow_3 0 rfl rfl)
theorem dX0_grow_73 : decode cX0_grow 73 = .ok (.getfield 374, 3) := dk_180 1 118 (dk_at dksX0_grow_3 1 rfl rfl)
theorem dX0_grow_76 : decode cX0_grow 76 = .ok (.if_icmp .gt 168, 3) := dk_163 0 168 (dk_at dksX0_grow_3 4 rfl rfl)
theorem dX0_grow_79 : decode cX0_grow 79 = .ok (.aload_n 0, 1) := dk_42 (dk_at dksX0_grow_3 7 rfl rfl)
theorem dX0_grow_80 : decode cX0_grow 80 = .ok (.iload 4, 2) := dk_21 4 (dk_at dksX0_grow_3 8 rfl rfl)
theorem dX0_grow_82 : decode cX0_grow 82 = .ok (.invokevirtual 296, 3) := dk_182 1 40 (dk_at dksX0_grow_3 10 rfl rfl)
theorem dX0_grow_85 : decode cX0_grow 85 = .ok (.ifCond .ne 6, 3) := dk_154 0 6 (dk_at dksX0_grow_3 13 rfl rfl)
theorem dX0_grow_88 : decode cX0_grow 88 = .ok (.goto 156, 3) := dk_167 0 156 (dk_at dksX0_grow_3 16 rfl rfl)
theorem dX0_grow_91 : decode cX0_grow 91 = .ok (.aload_n 0, 1) := dk_42 (dk_at dksX0_grow_3 19 rfl rfl)
theorem dX0_grow_92 : decode cX0_grow 92 = .ok (.invokevirtual 135, 3) := dk_182 0 135 (dk_at dksX0_grow_3 20 rfl rfl)
theorem dX0_grow_95 : decode cX0_grow 95 = .ok (.getfield 188, 3) := dk_180 0 188 (dk_at dksX0_grow_4 0 rfl rfl)
theorem dX0_grow_98 : decode cX0_grow 98 = .ok (.iload_n 1, 1) := dk_27 (dk_at dksX0_grow_4 3 rfl rfl)
theorem dX0_grow_99 : decode cX0_grow 99 = .ok (.iaload, 1) := dk_46 (dk_at dksX0_grow_4 4 rfl rfl)
theorem dX0_grow_100 : decode cX0_grow 100 = .ok (.istore 5, 2) := dk_54 5 (dk_at dksX0_grow_4 5 rfl rfl)
theorem dX0_grow_102 : decode cX0_grow 102 = .ok (.aload_n 0, 1) := dk_42 (dk_at dksX0_grow_4 7 rfl rfl)
theorem dX0_grow_103 : decode cX0_grow 103 = .ok (.invokevirtual 135, 3) := dk_182 0 135 (dk_at dksX0_grow_4 8 rfl rfl)
theorem dX0_grow_106 : decode cX0_grow 106 = .ok (.getfield 188, 3) := dk_180 0 188 (dk_at dksX0_grow_4 11 rfl rfl)
theorem dX0_grow_109 : decode cX0_grow 109 = .ok (.iload_n 1, 1) := dk_27 (dk_at dksX0_grow_4 14 rfl rfl)
theorem dX0_grow_110 : decode cX0_grow 110 = .ok (.sipush 999, 3) := dk_17 3 231 (dk_at dksX0_grow_4 15 rfl rfl)
theorem dX0_grow_113 : decode cX0_grow 113 = .ok (.iload 5, 2) := dk_21 5 (dk_at dksX0_grow_4 18 rfl rfl)
theorem dX0_grow_115 : decode cX0_grow 115 = .ok (.aload_n 0, 1) := dk_42 (dk_at dksX0_grow_4 20 rfl rfl)
theorem dX0_grow_116 : decode cX0_grow 116 = .ok (.iload_n 1, 1) := dk_27 (dk_at dksX0_grow_4 21 rfl rfl)
theorem dX0_grow_117 : decode cX0_grow 117 = .ok (.iload 4, 2) := dk_21 4 (dk_at dksX0_grow_4 22 rfl rfl)
theorem dX0_grow_119 : decode cX0_grow 119 = .ok (.invokevirtual 197, 3) := dk_182 0 197 (dk_at dksX0_grow_5 0 rfl rfl)
theorem dX0_grow_122 : decode cX0_grow 122 = .ok (.iadd, 1) := dk_96 (dk_at dksX0_grow_5 3 rfl rfl)
theorem dX0_grow_123 : decode cX0_grow 123 = .ok (.invokestatic 100, 3) := dk_184 0 100 (dk_at dksX0_grow_5 4 rfl rfl)
theorem dX0_grow_126 : decode cX0_grow 126 = .ok (.iastore, 1) := dk_79 (dk_at dksX0_grow_5 7 rfl rfl)
theorem dX0_grow_127 : decode cX0_grow 127 = .ok (.aload_n 0, 1) := dk_42 (dk_at dksX0_grow_5 8 rfl rfl)
theorem dX0_grow_128 : decode cX0_grow 128 = .ok (.invokevirtual 135, 3) := dk_182 0 135 (dk_at dksX0_grow_5 9 rfl rfl)
theorem dX0_grow_131 : decode cX0_grow 131 = .ok (.dup, 1) := dk_89 (dk_at dksX0_grow_5 12 rfl rfl)
theorem dX0_grow_132 : decode cX0_grow 132 = .ok (.getfield 138, 3) := dk_180 0 138 (dk_at dksX0_grow_5 13 rfl rfl)
theorem dX0_grow_135 : decode cX0_grow 135 = .ok (.iconst 1, 1) := dk_4 (dk_at dksX0_grow_5 16 rfl rfl)
theorem dX0_grow_136 : decode cX0_grow 136 = .ok (.iload 4, 2) := dk_21 4 (dk_at dksX0_grow_5 17 rfl rfl)
theorem dX0_grow_138 : decode cX0_grow 138 = .ok (.ishl, 1) := dk_120 (dk_at dksX0_grow_5 19 rfl rfl)
theorem dX0_grow_139 : decode cX0_grow 139 = .ok (.ior, 1) := dk_128 (dk_at dksX0_grow_5 20 rfl rfl)
theorem dX0_grow_140 : decode cX0_grow 140 = .ok (.putfield 138, 3) := dk_181 0 138 (dk_at dksX0_grow_5 21 rfl rfl)
theorem dX0_grow_143 : decode cX0_grow 143 = .ok (.aload_n 0, 1) := dk_42 (dk_at dksX0_grow_6 0 rfl rfl)
theorem dX0_grow_144 : decode cX0_grow 144 = .ok (.invokevirtual 135, 3) := dk_182 0 135 (dk_at dksX0_grow_6 1 rfl rfl)
theorem dX0_grow_147 : decode cX0_grow 147 = .ok (.dup, 1) := dk_89 (dk_at dksX0_grow_6 4 rfl rfl)
theorem dX0_grow_148 : decode cX0_grow 148 = .ok (.getfield 204, 3) := dk_180 0 204 (dk_at dksX0_grow_6 5 rfl rfl)
theorem dX0_grow_151 : decode cX0_grow 151 = .ok (.aload_n 0, 1) := dk_42 (dk_at dksX0_grow_6 8 rfl rfl)
theorem dX0_grow_152 : decode cX0_grow 152 = .ok (.getfield 10, 3) := dk_180 0 10 (dk_at dksX0_grow_6 9 rfl rfl)
theorem dX0_grow_155 : decode cX0_grow 155 = .ok (.getfield 159, 3) := dk_180 0 159 (dk_at dksX0_grow_6 12 rfl rfl)
theorem dX0_grow_158 : decode cX0_grow 158 = .ok (.iload 4, 2) := dk_21 4 (dk_at dksX0_grow_6 15 rfl rfl)
theorem dX0_grow_160 : decode cX0_grow 160 = .ok (.iaload, 1) := dk_46 (dk_at dksX0_grow_6 17 rfl rfl)
theorem dX0_grow_161 : decode cX0_grow 161 = .ok (.iadd, 1) := dk_96 (dk_at dksX0_grow_6 18 rfl rfl)
theorem dX0_grow_162 : decode cX0_grow 162 = .ok (.putfield 204, 3) := dk_181 0 204 (dk_at dksX0_grow_6 19 rfl rfl)
theorem dX0_grow_165 : decode cX0_grow 165 = .ok (.aload_n 0, 1) := dk_42 (dk_at dksX0_grow_6 22 rfl rfl)
theorem dX0_grow_166 : decode cX0_grow 166 = .ok (.getfield 82, 3) := dk_180 0 82 (dk_at dksX0_grow_7 0 rfl rfl)
theorem dX0_grow_169 : decode cX0_grow 169 = .ok (.iload_n 2, 1) := dk_28 (dk_at dksX0_grow_7 3 rfl rfl)
theorem dX0_grow_170 : decode cX0_grow 170 = .ok (.iload 4, 2) := dk_21 4 (dk_at dksX0_grow_7 4 rfl rfl)
theorem dX0_grow_172 : decode cX0_grow 172 = .ok (.iastore, 1) := dk_79 (dk_at dksX0_grow_7 6 rfl rfl)
theorem dX0_grow_173 : decode cX0_grow 173 = .ok (.aload_n 0, 1) := dk_42 (dk_at dksX0_grow_7 7 rfl rfl)
theorem dX0_grow_174 : decode cX0_grow 174 = .ok (.iload_n 1, 1) := dk_27 (dk_at dksX0_grow_7 8 rfl rfl)
theorem dX0_grow_175 : decode cX0_grow 175 = .ok (.iload_n 2, 1) := dk_28 (dk_at dksX0_grow_7 9 rfl rfl)
theorem dX0_grow_176 : decode cX0_grow 176 = .ok (.iconst 1, 1) := dk_4 (dk_at dksX0_grow_7 10 rfl rfl)
theorem dX0_grow_177 : decode cX0_grow 177 = .ok (.iadd, 1) := dk_96 (dk_at dksX0_grow_7 11 rfl rfl)
theorem dX0_grow_178 : decode cX0_grow 178 = .ok (.iload_n 3, 1) := dk_29 (dk_at dksX0_grow_7 12 rfl rfl)
theorem dX0_grow_179 : decode cX0_grow 179 = .ok (.aload_n 0, 1) := dk_42 (dk_at dksX0_grow_7 13 rfl rfl)
theorem dX0_grow_180 : decode cX0_grow 180 = .ok (.getfield 10, 3) := dk_180 0 10 (dk_at dksX0_grow_7 14 rfl rfl)
theorem dX0_grow_183 : decode cX0_grow 183 = .ok (.getfield 159, 3) := dk_180 0 159 (dk_at dksX0_grow_7 17 rfl rfl)
theorem dX0_grow_186 : decode cX0_grow 186 = .ok (.iload 4, 2) := dk_21 4 (dk_at dksX0_grow_7 20 rfl rfl)
theorem dX0_grow_188 : decode cX0_grow 188 = .ok (.iaload, 1) := dk_46 (dk_at dksX0_grow_7 22 rfl rfl)
theorem dX0_grow_189 : decode cX0_grow 189 = .ok (.iadd, 1) := dk_96 (dk_at dksX0_grow_7 23 rfl rfl)
theorem dX0_grow_190 : decode cX0_grow 190 = .ok (.invokevirtual 377, 3) := dk_182 1 121 (dk_at dksX0_grow_8 0 rfl rfl)
theorem dX0_grow_193 : decode cX0_grow 193 = .ok (.aload_n 0, 1) := dk_42 (dk_at dksX0_grow_8 3 rfl rfl)
theorem dX0_grow_194 : decode cX0_grow 194 = .ok (.invokevirtual 135, 3) := dk_182 0 135 (dk_at dksX0_grow_8 4 rfl rfl)
theorem dX0_grow_197 : decode cX0_grow 197 = .ok (.dup, 1) := dk_89 (dk_at dksX0_grow_8 7 rfl rfl)
theorem dX0_grow_198 : decode cX0_grow 198 = .ok (.getfield 204, 3) := dk_180 0 204 (dk_at dksX0_grow_8 8 rfl rfl)
theorem dX0_grow_201 : decode cX0_grow 201 = .ok (.aload_n 0, 1) := dk_42 (dk_at dksX0_grow_8 11 rfl rfl)
theorem dX0_grow_202 : decode cX0_grow 202 = .ok (.getfield 10, 3) := dk_180 0 10 (dk_at dksX0_grow_8 12 rfl rfl)
theorem dX0_grow_205 : decode cX0_grow 205 = .ok (.getfield 159, 3) := dk_180 0 159 (dk_at dksX0_grow_8 15 rfl rfl)
theorem dX0_grow_208 : decode cX0_grow 208 = .ok (.iload 4, 2) := dk_21 4 (dk_at dksX0_grow_8 18 rfl rfl)
theorem dX0_grow_210 : decode cX0_grow 210 = .ok (.iaload, 1) := dk_46 (dk_at dksX0_grow_8 20 rfl rfl)
theorem dX0_grow_211 : decode cX0_grow 211 = .ok (.isub, 1) := dk_100 (dk_at dksX0_grow_8 21 rfl rfl)
theorem dX0_grow_212 : decode cX0_grow 212 = .ok (.putfield 204, 3) := dk_181 0 204 (dk_at dksX0_grow_9 0 rfl rfl)
theorem dX0_grow_215 : decode cX0_grow 215 = .ok (.aload_n 0, 1) := dk_42 (dk_at dksX0_grow_9 3 rfl rfl)
theorem dX0_grow_216 : decode cX0_grow 216 = .ok (.invokevirtual 135, 3) := dk_182 0 135 (dk_at dksX0_grow_9 4 rfl rfl)
theorem dX0_grow_219 : decode cX0_grow 219 = .ok (.dup, 1) := dk_89 (dk_at dksX0_grow_9 7 rfl rfl)
theorem dX0_grow_220 : decode cX0_grow 220 = .ok (.getfield 138, 3) := dk_180 0 138 (dk_at dksX0_grow_9 8 rfl rfl)
theorem dX0_grow_223 : decode cX0_grow 223 = .ok (.iconst 1, 1) := dk_4 (dk_at dksX0_grow_9 11 rfl rfl)
theorem dX0_grow_224 : decode cX0_grow 224 = .ok (.iload 4, 2) := dk_21 4 (dk_at dksX0_grow_9 12 rfl rfl)
theorem dX0_grow_226 : decode cX0_grow 226 = .ok (.ishl, 1) := dk_120 (dk_at dksX0_grow_9 14 rfl rfl)
theorem dX0_grow_227 : decode cX0_grow 227 = .ok (.iconst (-1), 1) := dk_2 (dk_at dksX0_grow_9 15 rfl rfl)
theorem dX0_grow_228 : decode cX0_grow 228 = .ok (.ixor, 1) := dk_130 (dk_at dksX0_grow_9 16 rfl rfl)
theorem dX0_grow_229 : decode cX0_grow 229 = .ok (.iand, 1) := dk_126 (dk_at dksX0_grow_9 17 rfl rfl)
theorem dX0_grow_230 : decode cX0_grow 230 = .ok (.putfield 138, 3) := dk_181 0 138 (dk_at dksX0_grow_9 18 rfl rfl)
theorem dX0_grow_233 : decode cX0_grow 233 = .ok (.aload_n 0, 1) := dk_42 (dk_at dksX0_grow_9 21 rfl rfl)
theorem dX0_grow_234 : decode cX0_grow 234 = .ok (.invokevirtual 135, 3) := dk_182 0 135 (dk_at dksX0_grow_10 0 rfl rfl)
theorem dX0_grow_237 : decode cX0_grow 237 = .ok (.getfield 188, 3) := dk_180 0 188 (dk_at dksX0_grow_10 3 rfl rfl)
theorem dX0_grow_240 : decode cX0_grow 240 = .ok (.iload_n 1, 1) := dk_27 (dk_at dksX0_grow_10 6 rfl rfl)
theorem dX0_grow_241 : decode cX0_grow 241 = .ok (.iload 5, 2) := dk_21 5 (dk_at dksX0_grow_10 7 rfl rfl)
theorem dX0_grow_243 : decode cX0_grow 243 = .ok (.iastore, 1) := dk_79 (dk_at dksX0_grow_10 9 rfl rfl)
theorem dX0_grow_244 : decode cX0_grow 244 = .ok (.iinc 4 1, 3) := dk_132 4 1 (dk_at dksX0_grow_10 10 rfl rfl)
theorem dX0_grow_247 : decode cX0_grow 247 = .ok (.goto (-196), 3) := dk_167 255 60 (dk_at dksX0_grow_10 13 rfl rfl)
theorem dX0_grow_250 : decode cX0_grow 250 = .ok (.return_, 1) := dk_177 (dk_at dksX0_grow_10 16 rfl rfl)
abbrev cX0_soon : ByteArray := prog_1_method_73_code
def yX0_soon : MethodName := ⟨RX0, "soon", "(II)I"⟩
def dkwX0_soon_2 : List UInt8 := [160, 0, 7, 2, 167, 0, 7, 42, 180, 1, 127, 172]
abbrev dktX0_soon_2 : List UInt8 := dkwX0_soon_2 ++ []
def dkwX0_soon_1 : List UInt8 := [181, 1, 130, 42, 19, 1, 136, 181, 1, 127, 42, 27, 3, 182, 1, 133, 42, 180, 1, 127, 19, 1, 136]
abbrev dktX0_soon_1 : List UInt8 := dkwX0_soon_1 ++ dktX0_soon_2
def dkwX0_soon_0 : List UInt8 := [42, 27, 182, 0, 191, 153, 0, 15, 28, 133, 9, 20, 0, 200, 184, 0, 128, 154, 0, 5, 2, 172, 42, 28]
abbrev dktX0_soon_0 : List UInt8 := dkwX0_soon_0 ++ dktX0_soon_1
theorem dksX0_soon_0 : cX0_soon.data.toList.drop 0 = dktX0_soon_0 := by decide +kernel
theorem dksX0_soon_1 : cX0_soon.data.toList.drop 24 = dktX0_soon_1 := dk_seg dksX0_soon_0 24 rfl rfl
theorem dksX0_soon_2 : cX0_soon.data.toList.drop 47 = dktX0_soon_2 := dk_seg dksX0_soon_1 23 rfl rfl
theorem dX0_soon_0 : decode cX0_soon 0 = .ok (.aload_n 0, 1) := dk_42 (dk_at dksX0_soon_0 0 rfl rfl)
theorem dX0_soon_1 : decode cX0_soon 1 = .ok (.iload_n 1, 1) := dk_27 (dk_at dksX0_soon_0 1 rfl rfl)
theorem dX0_soon_2 : decode cX0_soon 2 = .ok (.invokevirtual 191, 3) := dk_182 0 191 (dk_at dksX0_soon_0 2 rfl rfl)
theorem dX0_soon_5 : decode cX0_soon 5 = .ok (.ifCond .eq 15, 3) := dk_153 0 15 (dk_at dksX0_soon_0 5 rfl rfl)
theorem dX0_soon_8 : decode cX0_soon 8 = .ok (.iload_n 2, 1) := dk_28 (dk_at dksX0_soon_0 8 rfl rfl)
theorem dX0_soon_9 : decode cX0_soon 9 = .ok (.i2l, 1) := dk_133 (dk_at dksX0_soon_0 9 rfl rfl)
theorem dX0_soon_10 : decode cX0_soon 10 = .ok (.lconst 0, 1) := dk_9 (dk_at dksX0_soon_0 10 rfl rfl)
theorem dX0_soon_11 : decode cX0_soon 11 = .ok (.ldc2_w 200, 3) := dk_20 0 200 (dk_at dksX0_soon_0 11 rfl rfl)
theorem dX0_soon_14 : decode cX0_soon 14 = .ok (.invokestatic 128, 3) := dk_184 0 128 (dk_at dksX0_soon_0 14 rfl rfl)
theorem dX0_soon_17 : decode cX0_soon 17 = .ok (.ifCond .ne 5, 3) := dk_154 0 5 (dk_at dksX0_soon_0 17 rfl rfl)
theorem dX0_soon_20 : decode cX0_soon 20 = .ok (.iconst (-1), 1) := dk_2 (dk_at dksX0_soon_0 20 rfl rfl)
theorem dX0_soon_21 : decode cX0_soon 21 = .ok (.ireturn, 1) := dk_172 (dk_at dksX0_soon_0 21 rfl rfl)
theorem dX0_soon_22 : decode cX0_soon 22 = .ok (.aload_n 0, 1) := dk_42 (dk_at dksX0_soon_0 22 rfl rfl)
theorem dX0_soon_23 : decode cX0_soon 23 = .ok (.iload_n 2, 1) := dk_28 (dk_at dksX0_soon_0 23 rfl rfl)
theorem dX0_soon_24 : decode cX0_soon 24 = .ok (.putfield 386, 3) := dk_181 1 130 (dk_at dksX0_soon_1 0 rfl rfl)
theorem dX0_soon_27 : decode cX0_soon 27 = .ok (.aload_n 0, 1) := dk_42 (dk_at dksX0_soon_1 3 rfl rfl)
theorem dX0_soon_28 : decode cX0_soon 28 = .ok (.ldc_w 392, 3) := dk_19 1 136 (dk_at dksX0_soon_1 4 rfl rfl)
theorem dX0_soon_31 : decode cX0_soon 31 = .ok (.putfield 383, 3) := dk_181 1 127 (dk_at dksX0_soon_1 7 rfl rfl)
theorem dX0_soon_34 : decode cX0_soon 34 = .ok (.aload_n 0, 1) := dk_42 (dk_at dksX0_soon_1 10 rfl rfl)
theorem dX0_soon_35 : decode cX0_soon 35 = .ok (.iload_n 1, 1) := dk_27 (dk_at dksX0_soon_1 11 rfl rfl)
theorem dX0_soon_36 : decode cX0_soon 36 = .ok (.iconst 0, 1) := dk_3 (dk_at dksX0_soon_1 12 rfl rfl)
theorem dX0_soon_37 : decode cX0_soon 37 = .ok (.invokevirtual 389, 3) := dk_182 1 133 (dk_at dksX0_soon_1 13 rfl rfl)
theorem dX0_soon_40 : decode cX0_soon 40 = .ok (.aload_n 0, 1) := dk_42 (dk_at dksX0_soon_1 16 rfl rfl)
theorem dX0_soon_41 : decode cX0_soon 41 = .ok (.getfield 383, 3) := dk_180 1 127 (dk_at dksX0_soon_1 17 rfl rfl)
theorem dX0_soon_44 : decode cX0_soon 44 = .ok (.ldc_w 392, 3) := dk_19 1 136 (dk_at dksX0_soon_1 20 rfl rfl)
theorem dX0_soon_47 : decode cX0_soon 47 = .ok (.if_icmp .ne 7, 3) := dk_160 0 7 (dk_at dksX0_soon_2 0 rfl rfl)
theorem dX0_soon_50 : decode cX0_soon 50 = .ok (.iconst (-1), 1) := dk_2 (dk_at dksX0_soon_2 3 rfl rfl)
theorem dX0_soon_51 : decode cX0_soon 51 = .ok (.goto 7, 3) := dk_167 0 7 (dk_at dksX0_soon_2 4 rfl rfl)
theorem dX0_soon_54 : decode cX0_soon 54 = .ok (.aload_n 0, 1) := dk_42 (dk_at dksX0_soon_2 7 rfl rfl)
theorem dX0_soon_55 : decode cX0_soon 55 = .ok (.getfield 383, 3) := dk_180 1 127 (dk_at dksX0_soon_2 8 rfl rfl)
theorem dX0_soon_58 : decode cX0_soon 58 = .ok (.ireturn, 1) := dk_172 (dk_at dksX0_soon_2 11 rfl rfl)
abbrev cX0_hurry : ByteArray := prog_1_method_72_code
def yX0_hurry : MethodName := ⟨RX0, "hurry", "(II)V"⟩
def dkwX0_hurry_8 : List UInt8 := [27, 21, 4, 79, 132, 3, 1, 167, 255, 98, 177]
abbrev dktX0_hurry_8 : List UInt8 := dkwX0_hurry_8 ++ []
def dkwX0_hurry_7 : List UInt8 := [42, 182, 0, 135, 89, 180, 0, 138, 4, 29, 120, 2, 130, 126, 181, 0, 138, 42, 182, 0, 135, 180, 0, 188]
abbrev dktX0_hurry_7 : List UInt8 := dkwX0_hurry_7 ++ dktX0_hurry_8
def dkwX0_hurry_6 : List UInt8 := [182, 1, 133, 42, 182, 0, 135, 89, 180, 0, 204, 42, 180, 0, 10, 180, 0, 159, 29, 46, 100, 181, 0, 204]
abbrev dktX0_hurry_6 : List UInt8 := dkwX0_hurry_6 ++ dktX0_hurry_7
def dkwX0_hurry_5 : List UInt8 := [180, 0, 159, 29, 46, 96, 181, 0, 204, 42, 27, 28, 42, 180, 0, 10, 180, 0, 159, 29, 46, 96]
abbrev dktX0_hurry_5 : List UInt8 := dkwX0_hurry_5 ++ dktX0_hurry_6
def dkwX0_hurry_4 : List UInt8 := [180, 0, 138, 4, 29, 120, 128, 181, 0, 138, 42, 182, 0, 135, 89, 180, 0, 204, 42, 180, 0, 10]
abbrev dktX0_hurry_4 : List UInt8 := dkwX0_hurry_4 ++ dktX0_hurry_5
def dkwX0_hurry_3 : List UInt8 := [27, 17, 3, 231, 21, 4, 42, 27, 29, 182, 0, 197, 96, 184, 0, 100, 79, 42, 182, 0, 135, 89]
abbrev dktX0_hurry_3 : List UInt8 := dkwX0_hurry_3 ++ dktX0_hurry_4
def dkwX0_hurry_2 : List UInt8 := [154, 0, 6, 167, 0, 139, 42, 182, 0, 135, 180, 0, 188, 27, 46, 54, 4, 42, 182, 0, 135, 180, 0, 188]
abbrev dktX0_hurry_2 : List UInt8 := dkwX0_hurry_2 ++ dktX0_hurry_3
def dkwX0_hurry_1 : List UInt8 := [161, 0, 9, 42, 28, 181, 1, 127, 177, 3, 62, 29, 42, 182, 0, 125, 162, 0, 156, 42, 29, 182, 1, 40]
abbrev dktX0_hurry_1 : List UInt8 := dkwX0_hurry_1 ++ dktX0_hurry_2
def dkwX0_hurry_0 : List UInt8 := [28, 42, 180, 1, 127, 161, 0, 4, 177, 42, 182, 0, 135, 180, 0, 188, 27, 46, 42, 180, 1, 130]
abbrev dktX0_hurry_0 : List UInt8 := dkwX0_hurry_0 ++ dktX0_hurry_1
theorem dksX0_hurry_0 : cX0_hurry.data.toList.drop 0 = dktX0_hurry_0 := by decide +kernel
theorem dksX0_hurry_1 : cX0_hurry.data.toList.drop 22 = dktX0_hurry_1 := dk_seg dksX0_hurry_0 22 rfl rfl
theorem dksX0_hurry_2 : cX0_hurry.data.toList.drop 46 = dktX0_hurry_2 := dk_seg dksX0_hurry_1 24 rfl rfl
theorem dksX0_hurry_3 : cX0_hurry.data.toList.drop 70 = dktX0_hurry_3 := dk_seg dksX0_hurry_2 24 rfl rfl
theorem dksX0_hurry_4 : cX0_hurry.data.toList.drop 92 = dktX0_hurry_4 := dk_seg dksX0_hurry_3 22 rfl rfl
theorem dksX0_hurry_5 : cX0_hurry.data.toList.drop 114 = dktX0_hurry_5 := dk_seg dksX0_hurry_4 22 rfl rfl
theorem dksX0_hurry_6 : cX0_hurry.data.toList.drop 136 = dktX0_hurry_6 := dk_seg dksX0_hurry_5 22 rfl rfl
theorem dksX0_hurry_7 : cX0_hurry.data.toList.drop 160 = dktX0_hurry_7 := dk_seg dksX0_hurry_6 24 rfl rfl
theorem dksX0_hurry_8 : cX0_hurry.data.toList.drop 184 = dktX0_hurry_8 := dk_seg dksX0_hurry_7 24 rfl rfl
theorem dX0_hurry_0 : decode cX0_hurry 0 = .ok (.iload_n 2, 1) := dk_28 (dk_at dksX0_hurry_0 0 rfl rfl)
theorem dX0_hurry_1 : decode cX0_hurry 1 = .ok (.aload_n 0, 1) := dk_42 (dk_at dksX0_hurry_0 1 rfl rfl)
theorem dX0_hurry_2 : decode cX0_hurry 2 = .ok (.getfield 383, 3) := dk_180 1 127 (dk_at dksX0_hurry_0 2 rfl rfl)
theorem dX0_hurry_5 : decode cX0_hurry 5 = .ok (.if_icmp .lt 4, 3) := dk_161 0 4 (dk_at dksX0_hurry_0 5 rfl rfl)
theorem dX0_hurry_8 : decode cX0_hurry 8 = .ok (.return_, 1) := dk_177 (dk_at dksX0_hurry_0 8 rfl rfl)
theorem dX0_hurry_9 : decode cX0_hurry 9 = .ok (.aload_n 0, 1) := dk_42 (dk_at dksX0_hurry_0 9 rfl rfl)
theorem dX0_hurry_10 : decode cX0_hurry 10 = .ok (.invokevirtual 135, 3) := dk_182 0 135 (dk_at dksX0_hurry_0 10 rfl rfl)
theorem dX0_hurry_13 : decode cX0_hurry 13 = .ok (.getfield 188, 3) := dk_180 0 188 (dk_at dksX0_hurry_0 13 rfl rfl)
theorem dX0_hurry_16 : decode cX0_hurry 16 = .ok (.iload_n 1, 1) := dk_27 (dk_at dksX0_hurry_0 16 rfl rfl)
theorem dX0_hurry_17 : decode cX0_hurry 17 = .ok (.iaload, 1) := dk_46 (dk_at dksX0_hurry_0 17 rfl rfl)
theorem dX0_hurry_18 : decode cX0_hurry 18 = .ok (.aload_n 0, 1) := dk_42 (dk_at dksX0_hurry_0 18 rfl rfl)
theorem dX0_hurry_19 : decode cX0_hurry 19 = .ok (.getfield 386, 3) := dk_180 1 130 (dk_at dksX0_hurry_0 19 rfl rfl)
theorem dX0_hurry_22 : decode cX0_hurry 22 = .ok (.if_icmp .lt 9, 3) := dk_161 0 9 (dk_at dksX0_hurry_1 0 rfl rfl)
theorem dX0_hurry_25 : decode cX0_hurry 25 = .ok (.aload_n 0, 1) := dk_42 (dk_at dksX0_hurry_1 3 rfl rfl)
theorem dX0_hurry_26 : decode cX0_hurry 26 = .ok (.iload_n 2, 1) := dk_28 (dk_at dksX0_hurry_1 4 rfl rfl)
theorem dX0_hurry_27 : decode cX0_hurry 27 = .ok (.putfield 383, 3) := dk_181 1 127 (dk_at dksX0_hurry_1 5 rfl rfl)
theorem dX0_hurry_30 : decode cX0_hurry 30 = .ok (.return_, 1) := dk_177 (dk_at dksX0_hurry_1 8 rfl rfl)
theorem dX0_hurry_31 : decode cX0_hurry 31 = .ok (.iconst 0, 1) := dk_3 (dk_at dksX0_hurry_1 9 rfl rfl)
theorem dX0_hurry_32 : decode cX0_hurry 32 = .ok (.istore_n 3, 1) := dk_62 (dk_at dksX0_hurry_1 10 rfl rfl)
theorem dX0_hurry_33 : decode cX0_hurry 33 = .ok (.iload_n 3, 1) := dk_29 (dk_at dksX0_hurry_1 11 rfl rfl)
theorem dX0_hurry_34 : decode cX0_hurry 34 = .ok (.aload_n 0, 1) := dk_42 (dk_at dksX0_hurry_1 12 rfl rfl)
theorem dX0_hurry_35 : decode cX0_hurry 35 = .ok (.invokevirtual 125, 3) := dk_182 0 125 (dk_at dksX0_hurry_1 13 rfl rfl)
theorem dX0_hurry_38 : decode cX0_hurry 38 = .ok (.if_icmp .ge 156, 3) := dk_162 0 156 (dk_at dksX0_hurry_1 16 rfl rfl)
theorem dX0_hurry_41 : decode cX0_hurry 41 = .ok (.aload_n 0, 1) := dk_42 (dk_at dksX0_hurry_1 19 rfl rfl)
theorem dX0_hurry_42 : decode cX0_hurry 42 = .ok (.iload_n 3, 1) := dk_29 (dk_at dksX0_hurry_1 20 rfl rfl)
theorem dX0_hurry_43 : decode cX0_hurry 43 = .ok (.invokevirtual 296, 3) := dk_182 1 40 (dk_at dksX0_hurry_1 21 rfl rfl)
theorem dX0_hurry_46 : decode cX0_hurry 46 = .ok (.ifCond .ne 6, 3) := dk_154 0 6 (dk_at dksX0_hurry_2 0 rfl rfl)
theorem dX0_hurry_49 : decode cX0_hurry 49 = .ok (.goto 139, 3) := dk_167 0 139 (dk_at dksX0_hurry_2 3 rfl rfl)
theorem dX0_hurry_52 : decode cX0_hurry 52 = .ok (.aload_n 0, 1) := dk_42 (dk_at dksX0_hurry_2 6 rfl rfl)
theorem dX0_hurry_53 : decode cX0_hurry 53 = .ok (.invokevirtual 135, 3) := dk_182 0 135 (dk_at dksX0_hurry_2 7 rfl rfl)
theorem dX0_hurry_56 : decode cX0_hurry 56 = .ok (.getfield 188, 3) := dk_180 0 188 (dk_at dksX0_hurry_2 10 rfl rfl)
theorem dX0_hurry_59 : decode cX0_hurry 59 = .ok (.iload_n 1, 1) := dk_27 (dk_at dksX0_hurry_2 13 rfl rfl)
theorem dX0_hurry_60 : decode cX0_hurry 60 = .ok (.iaload, 1) := dk_46 (dk_at dksX0_hurry_2 14 rfl rfl)
theorem dX0_hurry_61 : decode cX0_hurry 61 = .ok (.istore 4, 2) := dk_54 4 (dk_at dksX0_hurry_2 15 rfl rfl)
theorem dX0_hurry_63 : decode cX0_hurry 63 = .ok (.aload_n 0, 1) := dk_42 (dk_at dksX0_hurry_2 17 rfl rfl)
theorem dX0_hurry_64 : decode cX0_hurry 64 = .ok (.invokevirtual 135, 3) := dk_182 0 135 (dk_at dksX0_hurry_2 18 rfl rfl)
theorem dX0_hurry_67 : decode cX0_hurry 67 = .ok (.getfield 188, 3) := dk_180 0 188 (dk_at dksX0_hurry_2 21 rfl rfl)
theorem dX0_hurry_70 : decode cX0_hurry 70 = .ok (.iload_n 1, 1) := dk_27 (dk_at dksX0_hurry_3 0 rfl rfl)
theorem dX0_hurry_71 : decode cX0_hurry 71 = .ok (.sipush 999, 3) := dk_17 3 231 (dk_at dksX0_hurry_3 1 rfl rfl)
theorem dX0_hurry_74 : decode cX0_hurry 74 = .ok (.iload 4, 2) := dk_21 4 (dk_at dksX0_hurry_3 4 rfl rfl)
theorem dX0_hurry_76 : decode cX0_hurry 76 = .ok (.aload_n 0, 1) := dk_42 (dk_at dksX0_hurry_3 6 rfl rfl)
theorem dX0_hurry_77 : decode cX0_hurry 77 = .ok (.iload_n 1, 1) := dk_27 (dk_at dksX0_hurry_3 7 rfl rfl)
theorem dX0_hurry_78 : decode cX0_hurry 78 = .ok (.iload_n 3, 1) := dk_29 (dk_at dksX0_hurry_3 8 rfl rfl)
theorem dX0_hurry_79 : decode cX0_hurry 79 = .ok (.invokevirtual 197, 3) := dk_182 0 197 (dk_at dksX0_hurry_3 9 rfl rfl)
theorem dX0_hurry_82 : decode cX0_hurry 82 = .ok (.iadd, 1) := dk_96 (dk_at dksX0_hurry_3 12 rfl rfl)
theorem dX0_hurry_83 : decode cX0_hurry 83 = .ok (.invokestatic 100, 3) := dk_184 0 100 (dk_at dksX0_hurry_3 13 rfl rfl)
theorem dX0_hurry_86 : decode cX0_hurry 86 = .ok (.iastore, 1) := dk_79 (dk_at dksX0_hurry_3 16 rfl rfl)
theorem dX0_hurry_87 : decode cX0_hurry 87 = .ok (.aload_n 0, 1) := dk_42 (dk_at dksX0_hurry_3 17 rfl rfl)
theorem dX0_hurry_88 : decode cX0_hurry 88 = .ok (.invokevirtual 135, 3) := dk_182 0 135 (dk_at dksX0_hurry_3 18 rfl rfl)
theorem dX0_hurry_91 : decode cX0_hurry 91 = .ok (.dup, 1) := dk_89 (dk_at dksX0_hurry_3 21 rfl rfl)
theorem dX0_hurry_92 : decode cX0_hurry 92 = .ok (.getfield 138, 3) := dk_180 0 138 (dk_at dksX0_hurry_4 0 rfl rfl)
theorem dX0_hurry_95 : decode cX0_hurry 95 = .ok (.iconst 1, 1) := dk_4 (dk_at dksX0_hurry_4 3 rfl rfl)
theorem dX0_hurry_96 : decode cX0_hurry 96 = .ok (.iload_n 3, 1) := dk_29 (dk_at dksX0_hurry_4 4 rfl rfl)
theorem dX0_hurry_97 : decode cX0_hurry 97 = .ok (.ishl, 1) := dk_120 (dk_at dksX0_hurry_4 5 rfl rfl)
theorem dX0_hurry_98 : decode cX0_hurry 98 = .ok (.ior, 1) := dk_128 (dk_at dksX0_hurry_4 6 rfl rfl)
theorem dX0_hurry_99 : decode cX0_hurry 99 = .ok (.putfield 138, 3) := dk_181 0 138 (dk_at dksX0_hurry_4 7 rfl rfl)
theorem dX0_hurry_102 : decode cX0_hurry 102 = .ok (.aload_n 0, 1) := dk_42 (dk_at dksX0_hurry_4 10 rfl rfl)
theorem dX0_hurry_103 : decode cX0_hurry 103 = .ok (.invokevirtual 135, 3) := dk_182 0 135 (dk_at dksX0_hurry_4 11 rfl rfl)
theorem dX0_hurry_106 : decode cX0_hurry 106 = .ok (.dup, 1) := dk_89 (dk_at dksX0_hurry_4 14 rfl rfl)
theorem dX0_hurry_107 : decode cX0_hurry 107 = .ok (.getfield 204, 3) := dk_180 0 204 (dk_at dksX0_hurry_4 15 rfl rfl)
theorem dX0_hurry_110 : decode cX0_hurry 110 = .ok (.aload_n 0, 1) := dk_42 (dk_at dksX0_hurry_4 18 rfl rfl)
theorem dX0_hurry_111 : decode cX0_hurry 111 = .ok (.getfield 10, 3) := dk_180 0 10 (dk_at dksX0_hurry_4 19 rfl rfl)
theorem dX0_hurry_114 : decode cX0_hurry 114 = .ok (.getfield 159, 3) := dk_180 0 159 (dk_at dksX0_hurry_5 0 rfl rfl)
theorem dX0_hurry_117 : decode cX0_hurry 117 = .ok (.iload_n 3, 1) := dk_29 (dk_at dksX0_hurry_5 3 rfl rfl)
theorem dX0_hurry_118 : decode cX0_hurry 118 = .ok (.iaload, 1) := dk_46 (dk_at dksX0_hurry_5 4 rfl rfl)
theorem dX0_hurry_119 : decode cX0_hurry 119 = .ok (.iadd, 1) := dk_96 (dk_at dksX0_hurry_5 5 rfl rfl)
theorem dX0_hurry_120 : decode cX0_hurry 120 = .ok (.putfield 204, 3) := dk_181 0 204 (dk_at dksX0_hurry_5 6 rfl rfl)
theorem dX0_hurry_123 : decode cX0_hurry 123 = .ok (.aload_n 0, 1) := dk_42 (dk_at dksX0_hurry_5 9 rfl rfl)
theorem dX0_hurry_124 : decode cX0_hurry 124 = .ok (.iload_n 1, 1) := dk_27 (dk_at dksX0_hurry_5 10 rfl rfl)
theorem dX0_hurry_125 : decode cX0_hurry 125 = .ok (.iload_n 2, 1) := dk_28 (dk_at dksX0_hurry_5 11 rfl rfl)
theorem dX0_hurry_126 : decode cX0_hurry 126 = .ok (.aload_n 0, 1) := dk_42 (dk_at dksX0_hurry_5 12 rfl rfl)
theorem dX0_hurry_127 : decode cX0_hurry 127 = .ok (.getfield 10, 3) := dk_180 0 10 (dk_at dksX0_hurry_5 13 rfl rfl)
theorem dX0_hurry_130 : decode cX0_hurry 130 = .ok (.getfield 159, 3) := dk_180 0 159 (dk_at dksX0_hurry_5 16 rfl rfl)
theorem dX0_hurry_133 : decode cX0_hurry 133 = .ok (.iload_n 3, 1) := dk_29 (dk_at dksX0_hurry_5 19 rfl rfl)
theorem dX0_hurry_134 : decode cX0_hurry 134 = .ok (.iaload, 1) := dk_46 (dk_at dksX0_hurry_5 20 rfl rfl)
theorem dX0_hurry_135 : decode cX0_hurry 135 = .ok (.iadd, 1) := dk_96 (dk_at dksX0_hurry_5 21 rfl rfl)
theorem dX0_hurry_136 : decode cX0_hurry 136 = .ok (.invokevirtual 389, 3) := dk_182 1 133 (dk_at dksX0_hurry_6 0 rfl rfl)
theorem dX0_hurry_139 : decode cX0_hurry 139 = .ok (.aload_n 0, 1) := dk_42 (dk_at dksX0_hurry_6 3 rfl rfl)
theorem dX0_hurry_140 : decode cX0_hurry 140 = .ok (.invokevirtual 135, 3) := dk_182 0 135 (dk_at dksX0_hurry_6 4 rfl rfl)
theorem dX0_hurry_143 : decode cX0_hurry 143 = .ok (.dup, 1) := dk_89 (dk_at dksX0_hurry_6 7 rfl rfl)
theorem dX0_hurry_144 : decode cX0_hurry 144 = .ok (.getfield 204, 3) := dk_180 0 204 (dk_at dksX0_hurry_6 8 rfl rfl)
theorem dX0_hurry_147 : decode cX0_hurry 147 = .ok (.aload_n 0, 1) := dk_42 (dk_at dksX0_hurry_6 11 rfl rfl)
theorem dX0_hurry_148 : decode cX0_hurry 148 = .ok (.getfield 10, 3) := dk_180 0 10 (dk_at dksX0_hurry_6 12 rfl rfl)
theorem dX0_hurry_151 : decode cX0_hurry 151 = .ok (.getfield 159, 3) := dk_180 0 159 (dk_at dksX0_hurry_6 15 rfl rfl)
theorem dX0_hurry_154 : decode cX0_hurry 154 = .ok (.iload_n 3, 1) := dk_29 (dk_at dksX0_hurry_6 18 rfl rfl)
theorem dX0_hurry_155 : decode cX0_hurry 155 = .ok (.iaload, 1) := dk_46 (dk_at dksX0_hurry_6 19 rfl rfl)
theorem dX0_hurry_156 : decode cX0_hurry 156 = .ok (.isub, 1) := dk_100 (dk_at dksX0_hurry_6 20 rfl rfl)
theorem dX0_hurry_157 : decode cX0_hurry 157 = .ok (.putfield 204, 3) := dk_181 0 204 (dk_at dksX0_hurry_6 21 rfl rfl)
theorem dX0_hurry_160 : decode cX0_hurry 160 = .ok (.aload_n 0, 1) := dk_42 (dk_at dksX0_hurry_7 0 rfl rfl)
theorem dX0_hurry_161 : decode cX0_hurry 161 = .ok (.invokevirtual 135, 3) := dk_182 0 135 (dk_at dksX0_hurry_7 1 rfl rfl)
theorem dX0_hurry_164 : decode cX0_hurry 164 = .ok (.dup, 1) := dk_89 (dk_at dksX0_hurry_7 4 rfl rfl)
theorem dX0_hurry_165 : decode cX0_hurry 165 = .ok (.getfield 138, 3) := dk_180 0 138 (dk_at dksX0_hurry_7 5 rfl rfl)
theorem dX0_hurry_168 : decode cX0_hurry 168 = .ok (.iconst 1, 1) := dk_4 (dk_at dksX0_hurry_7 8 rfl rfl)
theorem dX0_hurry_169 : decode cX0_hurry 169 = .ok (.iload_n 3, 1) := dk_29 (dk_at dksX0_hurry_7 9 rfl rfl)
theorem dX0_hurry_170 : decode cX0_hurry 170 = .ok (.ishl, 1) := dk_120 (dk_at dksX0_hurry_7 10 rfl rfl)
theorem dX0_hurry_171 : decode cX0_hurry 171 = .ok (.iconst (-1), 1) := dk_2 (dk_at dksX0_hurry_7 11 rfl rfl)
theorem dX0_hurry_172 : decode cX0_hurry 172 = .ok (.ixor, 1) := dk_130 (dk_at dksX0_hurry_7 12 rfl rfl)
theorem dX0_hurry_173 : decode cX0_hurry 173 = .ok (.iand, 1) := dk_126 (dk_at dksX0_hurry_7 13 rfl rfl)
theorem dX0_hurry_174 : decode cX0_hurry 174 = .ok (.putfield 138, 3) := dk_181 0 138 (dk_at dksX0_hurry_7 14 rfl rfl)
theorem dX0_hurry_177 : decode cX0_hurry 177 = .ok (.aload_n 0, 1) := dk_42 (dk_at dksX0_hurry_7 17 rfl rfl)
theorem dX0_hurry_178 : decode cX0_hurry 178 = .ok (.invokevirtual 135, 3) := dk_182 0 135 (dk_at dksX0_hurry_7 18 rfl rfl)
theorem dX0_hurry_181 : decode cX0_hurry 181 = .ok (.getfield 188, 3) := dk_180 0 188 (dk_at dksX0_hurry_7 21 rfl rfl)
theorem dX0_hurry_184 : decode cX0_hurry 184 = .ok (.iload_n 1, 1) := dk_27 (dk_at dksX0_hurry_8 0 rfl rfl)
theorem dX0_hurry_185 : decode cX0_hurry 185 = .ok (.iload 4, 2) := dk_21 4 (dk_at dksX0_hurry_8 1 rfl rfl)
theorem dX0_hurry_187 : decode cX0_hurry 187 = .ok (.iastore, 1) := dk_79 (dk_at dksX0_hurry_8 3 rfl rfl)
theorem dX0_hurry_188 : decode cX0_hurry 188 = .ok (.iinc 3 1, 3) := dk_132 3 1 (dk_at dksX0_hurry_8 4 rfl rfl)
theorem dX0_hurry_191 : decode cX0_hurry 191 = .ok (.goto (-158), 3) := dk_167 255 98 (dk_at dksX0_hurry_8 7 rfl rfl)
theorem dX0_hurry_194 : decode cX0_hurry 194 = .ok (.return_, 1) := dk_177 (dk_at dksX0_hurry_8 10 rfl rfl)
abbrev cX0_compare : ByteArray := prog_1_method_74_code
def yX0_compare : MethodName := ⟨RX0, "compare", "(III)I"⟩
def dkwX0_compare_2 : List UInt8 := [182, 0, 197, 54, 5, 42, 180, 0, 10, 21, 4, 181, 1, 8, 21, 5, 172]
abbrev dktX0_compare_2 : List UInt8 := dkwX0_compare_2 ++ []
def dkwX0_compare_1 : List UInt8 := [2, 172, 42, 180, 0, 10, 180, 1, 8, 54, 4, 42, 180, 0, 10, 27, 181, 1, 8, 42, 28, 29]
abbrev dktX0_compare_1 : List UInt8 := dkwX0_compare_1 ++ dktX0_compare_2
def dkwX0_compare_0 : List UInt8 := [42, 27, 182, 1, 5, 153, 0, 19, 42, 28, 182, 0, 191, 153, 0, 11, 42, 29, 182, 0, 172, 154, 0, 5]
abbrev dktX0_compare_0 : List UInt8 := dkwX0_compare_0 ++ dktX0_compare_1
theorem dksX0_compare_0 : cX0_compare.data.toList.drop 0 = dktX0_compare_0 := by decide +kernel
theorem dksX0_compare_1 : cX0_compare.data.toList.drop 24 = dktX0_compare_1 := dk_seg dksX0_compare_0 24 rfl rfl
theorem dksX0_compare_2 : cX0_compare.data.toList.drop 46 = dktX0_compare_2 := dk_seg dksX0_compare_1 22 rfl rfl
theorem dX0_compare_0 : decode cX0_compare 0 = .ok (.aload_n 0, 1) := dk_42 (dk_at dksX0_compare_0 0 rfl rfl)
theorem dX0_compare_1 : decode cX0_compare 1 = .ok (.iload_n 1, 1) := dk_27 (dk_at dksX0_compare_0 1 rfl rfl)
theorem dX0_compare_2 : decode cX0_compare 2 = .ok (.invokevirtual 261, 3) := dk_182 1 5 (dk_at dksX0_compare_0 2 rfl rfl)
theorem dX0_compare_5 : decode cX0_compare 5 = .ok (.ifCond .eq 19, 3) := dk_153 0 19 (dk_at dksX0_compare_0 5 rfl rfl)
theorem dX0_compare_8 : decode cX0_compare 8 = .ok (.aload_n 0, 1) := dk_42 (dk_at dksX0_compare_0 8 rfl rfl)
theorem dX0_compare_9 : decode cX0_compare 9 = .ok (.iload_n 2, 1) := dk_28 (dk_at dksX0_compare_0 9 rfl rfl)
theorem dX0_compare_10 : decode cX0_compare 10 = .ok (.invokevirtual 191, 3) := dk_182 0 191 (dk_at dksX0_compare_0 10 rfl rfl)
theorem dX0_compare_13 : decode cX0_compare 13 = .ok (.ifCond .eq 11, 3) := dk_153 0 11 (dk_at dksX0_compare_0 13 rfl rfl)
theorem dX0_compare_16 : decode cX0_compare 16 = .ok (.aload_n 0, 1) := dk_42 (dk_at dksX0_compare_0 16 rfl rfl)
theorem dX0_compare_17 : decode cX0_compare 17 = .ok (.iload_n 3, 1) := dk_29 (dk_at dksX0_compare_0 17 rfl rfl)
theorem dX0_compare_18 : decode cX0_compare 18 = .ok (.invokevirtual 172, 3) := dk_182 0 172 (dk_at dksX0_compare_0 18 rfl rfl)
theorem dX0_compare_21 : decode cX0_compare 21 = .ok (.ifCond .ne 5, 3) := dk_154 0 5 (dk_at dksX0_compare_0 21 rfl rfl)
theorem dX0_compare_24 : decode cX0_compare 24 = .ok (.iconst (-1), 1) := dk_2 (dk_at dksX0_compare_1 0 rfl rfl)
theorem dX0_compare_25 : decode cX0_compare 25 = .ok (.ireturn, 1) := dk_172 (dk_at dksX0_compare_1 1 rfl rfl)
theorem dX0_compare_26 : decode cX0_compare 26 = .ok (.aload_n 0, 1) := dk_42 (dk_at dksX0_compare_1 2 rfl rfl)
theorem dX0_compare_27 : decode cX0_compare 27 = .ok (.getfield 10, 3) := dk_180 0 10 (dk_at dksX0_compare_1 3 rfl rfl)
theorem dX0_compare_30 : decode cX0_compare 30 = .ok (.getfield 264, 3) := dk_180 1 8 (dk_at dksX0_compare_1 6 rfl rfl)
theorem dX0_compare_33 : decode cX0_compare 33 = .ok (.istore 4, 2) := dk_54 4 (dk_at dksX0_compare_1 9 rfl rfl)
theorem dX0_compare_35 : decode cX0_compare 35 = .ok (.aload_n 0, 1) := dk_42 (dk_at dksX0_compare_1 11 rfl rfl)
theorem dX0_compare_36 : decode cX0_compare 36 = .ok (.getfield 10, 3) := dk_180 0 10 (dk_at dksX0_compare_1 12 rfl rfl)
theorem dX0_compare_39 : decode cX0_compare 39 = .ok (.iload_n 1, 1) := dk_27 (dk_at dksX0_compare_1 15 rfl rfl)
theorem dX0_compare_40 : decode cX0_compare 40 = .ok (.putfield 264, 3) := dk_181 1 8 (dk_at dksX0_compare_1 16 rfl rfl)
theorem dX0_compare_43 : decode cX0_compare 43 = .ok (.aload_n 0, 1) := dk_42 (dk_at dksX0_compare_1 19 rfl rfl)
theorem dX0_compare_44 : decode cX0_compare 44 = .ok (.iload_n 2, 1) := dk_28 (dk_at dksX0_compare_1 20 rfl rfl)
theorem dX0_compare_45 : decode cX0_compare 45 = .ok (.iload_n 3, 1) := dk_29 (dk_at dksX0_compare_1 21 rfl rfl)
theorem dX0_compare_46 : decode cX0_compare 46 = .ok (.invokevirtual 197, 3) := dk_182 0 197 (dk_at dksX0_compare_2 0 rfl rfl)
theorem dX0_compare_49 : decode cX0_compare 49 = .ok (.istore 5, 2) := dk_54 5 (dk_at dksX0_compare_2 3 rfl rfl)
theorem dX0_compare_51 : decode cX0_compare 51 = .ok (.aload_n 0, 1) := dk_42 (dk_at dksX0_compare_2 5 rfl rfl)
theorem dX0_compare_52 : decode cX0_compare 52 = .ok (.getfield 10, 3) := dk_180 0 10 (dk_at dksX0_compare_2 6 rfl rfl)
theorem dX0_compare_55 : decode cX0_compare 55 = .ok (.iload 4, 2) := dk_21 4 (dk_at dksX0_compare_2 9 rfl rfl)
theorem dX0_compare_57 : decode cX0_compare 57 = .ok (.putfield 264, 3) := dk_181 1 8 (dk_at dksX0_compare_2 11 rfl rfl)
theorem dX0_compare_60 : decode cX0_compare 60 = .ok (.iload 5, 2) := dk_21 5 (dk_at dksX0_compare_2 14 rfl rfl)
theorem dX0_compare_62 : decode cX0_compare 62 = .ok (.ireturn, 1) := dk_172 (dk_at dksX0_compare_2 16 rfl rfl)
abbrev cX0_seen : ByteArray := prog_1_method_75_code
def yX0_seen : MethodName := ⟨RX0, "seen", "(II)I"⟩
def dkwX0_seen_4 : List UInt8 := [172]
abbrev dktX0_seen_4 : List UInt8 := dkwX0_seen_4 ++ []
def dkwX0_seen_3 : List UInt8 := [181, 1, 139, 50, 78, 45, 3, 27, 79, 45, 4, 28, 79, 42, 42, 180, 0, 10, 180, 1, 139, 182, 0, 112]
abbrev dktX0_seen_3 : List UInt8 := dkwX0_seen_3 ++ dktX0_seen_4
def dkwX0_seen_2 : List UInt8 := [16, 251, 182, 0, 112, 172, 42, 180, 0, 10, 180, 1, 142, 42, 180, 0, 10, 89, 180, 1, 139, 90, 4, 96]
abbrev dktX0_seen_2 : List UInt8 := dkwX0_seen_2 ++ dktX0_seen_3
def dkwX0_seen_1 : List UInt8 := [154, 0, 10, 42, 16, 254, 182, 0, 112, 172, 42, 180, 0, 10, 180, 1, 139, 16, 6, 160, 0, 10, 42]
abbrev dktX0_seen_1 : List UInt8 := dkwX0_seen_1 ++ dktX0_seen_2
def dkwX0_seen_0 : List UInt8 := [28, 133, 9, 20, 1, 137, 184, 0, 128, 154, 0, 9, 42, 2, 182, 0, 112, 172, 42, 27, 182, 0, 191]
abbrev dktX0_seen_0 : List UInt8 := dkwX0_seen_0 ++ dktX0_seen_1
theorem dksX0_seen_0 : cX0_seen.data.toList.drop 0 = dktX0_seen_0 := by decide +kernel
theorem dksX0_seen_1 : cX0_seen.data.toList.drop 23 = dktX0_seen_1 := dk_seg dksX0_seen_0 23 rfl rfl
theorem dksX0_seen_2 : cX0_seen.data.toList.drop 46 = dktX0_seen_2 := dk_seg dksX0_seen_1 23 rfl rfl
theorem dksX0_seen_3 : cX0_seen.data.toList.drop 70 = dktX0_seen_3 := dk_seg dksX0_seen_2 24 rfl rfl
theorem dksX0_seen_4 : cX0_seen.data.toList.drop 94 = dktX0_seen_4 := dk_seg dksX0_seen_3 24 rfl rfl
theorem dX0_seen_0 : decode cX0_seen 0 = .ok (.iload_n 2, 1) := dk_28 (dk_at dksX0_seen_0 0 rfl rfl)
theorem dX0_seen_1 : decode cX0_seen 1 = .ok (.i2l, 1) := dk_133 (dk_at dksX0_seen_0 1 rfl rfl)
theorem dX0_seen_2 : decode cX0_seen 2 = .ok (.lconst 0, 1) := dk_9 (dk_at dksX0_seen_0 2 rfl rfl)
theorem dX0_seen_3 : decode cX0_seen 3 = .ok (.ldc2_w 393, 3) := dk_20 1 137 (dk_at dksX0_seen_0 3 rfl rfl)
theorem dX0_seen_6 : decode cX0_seen 6 = .ok (.invokestatic 128, 3) := dk_184 0 128 (dk_at dksX0_seen_0 6 rfl rfl)
theorem dX0_seen_9 : decode cX0_seen 9 = .ok (.ifCond .ne 9, 3) := dk_154 0 9 (dk_at dksX0_seen_0 9 rfl rfl)
theorem dX0_seen_12 : decode cX0_seen 12 = .ok (.aload_n 0, 1) := dk_42 (dk_at dksX0_seen_0 12 rfl rfl)
theorem dX0_seen_13 : decode cX0_seen 13 = .ok (.iconst (-1), 1) := dk_2 (dk_at dksX0_seen_0 13 rfl rfl)
theorem dX0_seen_14 : decode cX0_seen 14 = .ok (.invokevirtual 112, 3) := dk_182 0 112 (dk_at dksX0_seen_0 14 rfl rfl)
theorem dX0_seen_17 : decode cX0_seen 17 = .ok (.ireturn, 1) := dk_172 (dk_at dksX0_seen_0 17 rfl rfl)
theorem dX0_seen_18 : decode cX0_seen 18 = .ok (.aload_n 0, 1) := dk_42 (dk_at dksX0_seen_0 18 rfl rfl)
theorem dX0_seen_19 : decode cX0_seen 19 = .ok (.iload_n 1, 1) := dk_27 (dk_at dksX0_seen_0 19 rfl rfl)
theorem dX0_seen_20 : decode cX0_seen 20 = .ok (.invokevirtual 191, 3) := dk_182 0 191 (dk_at dksX0_seen_0 20 rfl rfl)
theorem dX0_seen_23 : decode cX0_seen 23 = .ok (.ifCond .ne 10, 3) := dk_154 0 10 (dk_at dksX0_seen_1 0 rfl rfl)
theorem dX0_seen_26 : decode cX0_seen 26 = .ok (.aload_n 0, 1) := dk_42 (dk_at dksX0_seen_1 3 rfl rfl)
theorem dX0_seen_27 : decode cX0_seen 27 = .ok (.bipush (-2), 2) := dk_16 254 (dk_at dksX0_seen_1 4 rfl rfl)
theorem dX0_seen_29 : decode cX0_seen 29 = .ok (.invokevirtual 112, 3) := dk_182 0 112 (dk_at dksX0_seen_1 6 rfl rfl)
theorem dX0_seen_32 : decode cX0_seen 32 = .ok (.ireturn, 1) := dk_172 (dk_at dksX0_seen_1 9 rfl rfl)
theorem dX0_seen_33 : decode cX0_seen 33 = .ok (.aload_n 0, 1) := dk_42 (dk_at dksX0_seen_1 10 rfl rfl)
theorem dX0_seen_34 : decode cX0_seen 34 = .ok (.getfield 10, 3) := dk_180 0 10 (dk_at dksX0_seen_1 11 rfl rfl)
theorem dX0_seen_37 : decode cX0_seen 37 = .ok (.getfield 395, 3) := dk_180 1 139 (dk_at dksX0_seen_1 14 rfl rfl)
theorem dX0_seen_40 : decode cX0_seen 40 = .ok (.bipush 6, 2) := dk_16 6 (dk_at dksX0_seen_1 17 rfl rfl)
theorem dX0_seen_42 : decode cX0_seen 42 = .ok (.if_icmp .ne 10, 3) := dk_160 0 10 (dk_at dksX0_seen_1 19 rfl rfl)
theorem dX0_seen_45 : decode cX0_seen 45 = .ok (.aload_n 0, 1) := dk_42 (dk_at dksX0_seen_1 22 rfl rfl)
theorem dX0_seen_46 : decode cX0_seen 46 = .ok (.bipush (-5), 2) := dk_16 251 (dk_at dksX0_seen_2 0 rfl rfl)
theorem dX0_seen_48 : decode cX0_seen 48 = .ok (.invokevirtual 112, 3) := dk_182 0 112 (dk_at dksX0_seen_2 2 rfl rfl)
theorem dX0_seen_51 : decode cX0_seen 51 = .ok (.ireturn, 1) := dk_172 (dk_at dksX0_seen_2 5 rfl rfl)
theorem dX0_seen_52 : decode cX0_seen 52 = .ok (.aload_n 0, 1) := dk_42 (dk_at dksX0_seen_2 6 rfl rfl)
theorem dX0_seen_53 : decode cX0_seen 53 = .ok (.getfield 10, 3) := dk_180 0 10 (dk_at dksX0_seen_2 7 rfl rfl)
theorem dX0_seen_56 : decode cX0_seen 56 = .ok (.getfield 398, 3) := dk_180 1 142 (dk_at dksX0_seen_2 10 rfl rfl)
theorem dX0_seen_59 : decode cX0_seen 59 = .ok (.aload_n 0, 1) := dk_42 (dk_at dksX0_seen_2 13 rfl rfl)
theorem dX0_seen_60 : decode cX0_seen 60 = .ok (.getfield 10, 3) := dk_180 0 10 (dk_at dksX0_seen_2 14 rfl rfl)
theorem dX0_seen_63 : decode cX0_seen 63 = .ok (.dup, 1) := dk_89 (dk_at dksX0_seen_2 17 rfl rfl)
theorem dX0_seen_64 : decode cX0_seen 64 = .ok (.getfield 395, 3) := dk_180 1 139 (dk_at dksX0_seen_2 18 rfl rfl)
theorem dX0_seen_67 : decode cX0_seen 67 = .ok (.dup_x1, 1) := dk_90 (dk_at dksX0_seen_2 21 rfl rfl)
theorem dX0_seen_68 : decode cX0_seen 68 = .ok (.iconst 1, 1) := dk_4 (dk_at dksX0_seen_2 22 rfl rfl)
theorem dX0_seen_69 : decode cX0_seen 69 = .ok (.iadd, 1) := dk_96 (dk_at dksX0_seen_2 23 rfl rfl)
theorem dX0_seen_70 : decode cX0_seen 70 = .ok (.putfield 395, 3) := dk_181 1 139 (dk_at dksX0_seen_3 0 rfl rfl)
theorem dX0_seen_73 : decode cX0_seen 73 = .ok (.aaload, 1) := dk_50 (dk_at dksX0_seen_3 3 rfl rfl)
theorem dX0_seen_74 : decode cX0_seen 74 = .ok (.astore_n 3, 1) := dk_78 (dk_at dksX0_seen_3 4 rfl rfl)
theorem dX0_seen_75 : decode cX0_seen 75 = .ok (.aload_n 3, 1) := dk_45 (dk_at dksX0_seen_3 5 rfl rfl)
theorem dX0_seen_76 : decode cX0_seen 76 = .ok (.iconst 0, 1) := dk_3 (dk_at dksX0_seen_3 6 rfl rfl)
theorem dX0_seen_77 : decode cX0_seen 77 = .ok (.iload_n 1, 1) := dk_27 (dk_at dksX0_seen_3 7 rfl rfl)
theorem dX0_seen_78 : decode cX0_seen 78 = .ok (.iastore, 1) := dk_79 (dk_at dksX0_seen_3 8 rfl rfl)
theorem dX0_seen_79 : decode cX0_seen 79 = .ok (.aload_n 3, 1) := dk_45 (dk_at dksX0_seen_3 9 rfl rfl)
theorem dX0_seen_80 : decode cX0_seen 80 = .ok (.iconst 1, 1) := dk_4 (dk_at dksX0_seen_3 10 rfl rfl)
theorem dX0_seen_81 : decode cX0_seen 81 = .ok (.iload_n 2, 1) := dk_28 (dk_at dksX0_seen_3 11 rfl rfl)
theorem dX0_seen_82 : decode cX0_seen 82 = .ok (.iastore, 1) := dk_79 (dk_at dksX0_seen_3 12 rfl rfl)
theorem dX0_seen_83 : decode cX0_seen 83 = .ok (.aload_n 0, 1) := dk_42 (dk_at dksX0_seen_3 13 rfl rfl)
theorem dX0_seen_84 : decode cX0_seen 84 = .ok (.aload_n 0, 1) := dk_42 (dk_at dksX0_seen_3 14 rfl rfl)
theorem dX0_seen_85 : decode cX0_seen 85 = .ok (.getfield 10, 3) := dk_180 0 10 (dk_at dksX0_seen_3 15 rfl rfl)
theorem dX0_seen_88 : decode cX0_seen 88 = .ok (.getfield 395, 3) := dk_180 1 139 (dk_at dksX0_seen_3 18 rfl rfl)
theorem dX0_seen_91 : decode cX0_seen 91 = .ok (.invokevirtual 112, 3) := dk_182 0 112 (dk_at dksX0_seen_3 21 rfl rfl)
theorem dX0_seen_94 : decode cX0_seen 94 = .ok (.ireturn, 1) := dk_172 (dk_at dksX0_seen_4 0 rfl rfl)
abbrev cX0_forget : ByteArray := prog_1_method_76_code
def yX0_forget : MethodName := ⟨RX0, "forget", "()I"⟩
def dkwX0_forget_0 : List UInt8 := [42, 180, 0, 10, 180, 1, 139, 60, 42, 180, 0, 10, 3, 181, 1, 139, 27, 172]
abbrev dktX0_forget_0 : List UInt8 := dkwX0_forget_0 ++ []
theorem dksX0_forget_0 : cX0_forget.data.toList.drop 0 = dktX0_forget_0 := by decide +kernel
theorem dX0_forget_0 : decode cX0_forget 0 = .ok (.aload_n 0, 1) := dk_42 (dk_at dksX0_forget_0 0 rfl rfl)
theorem dX0_forget_1 : decode cX0_forget 1 = .ok (.getfield 10, 3) := dk_180 0 10 (dk_at dksX0_forget_0 1 rfl rfl)
theorem dX0_forget_4 : decode cX0_forget 4 = .ok (.getfield 395, 3) := dk_180 1 139 (dk_at dksX0_forget_0 4 rfl rfl)
theorem dX0_forget_7 : decode cX0_forget 7 = .ok (.istore_n 1, 1) := dk_60 (dk_at dksX0_forget_0 7 rfl rfl)
theorem dX0_forget_8 : decode cX0_forget 8 = .ok (.aload_n 0, 1) := dk_42 (dk_at dksX0_forget_0 8 rfl rfl)
theorem dX0_forget_9 : decode cX0_forget 9 = .ok (.getfield 10, 3) := dk_180 0 10 (dk_at dksX0_forget_0 9 rfl rfl)
theorem dX0_forget_12 : decode cX0_forget 12 = .ok (.iconst 0, 1) := dk_3 (dk_at dksX0_forget_0 12 rfl rfl)
theorem dX0_forget_13 : decode cX0_forget 13 = .ok (.putfield 395, 3) := dk_181 1 139 (dk_at dksX0_forget_0 13 rfl rfl)
theorem dX0_forget_16 : decode cX0_forget 16 = .ok (.iload_n 1, 1) := dk_27 (dk_at dksX0_forget_0 16 rfl rfl)
theorem dX0_forget_17 : decode cX0_forget 17 = .ok (.ireturn, 1) := dk_172 (dk_at dksX0_forget_0 17 rfl rfl)
abbrev cX0_canBe : ByteArray := prog_1_method_77_code
def yX0_canBe : MethodName := ⟨RX0, "canBe", "()I"⟩
def dkwX0_canBe_4 : List UInt8 := [167, 255, 168, 27, 172]
abbrev dktX0_canBe_4 : List UInt8 := dkwX0_canBe_4 ++ []
def dkwX0_canBe_3 : List UInt8 := [132, 4, 1, 167, 255, 201, 27, 29, 153, 0, 9, 4, 28, 120, 167, 0, 4, 3, 128, 60, 132, 2, 1]
abbrev dktX0_canBe_3 : List UInt8 := dkwX0_canBe_3 ++ dktX0_canBe_4
def dkwX0_canBe_2 : List UInt8 := [42, 180, 0, 10, 180, 1, 142, 21, 4, 50, 4, 46, 160, 0, 7, 4, 167, 0, 4, 3, 126, 62]
abbrev dktX0_canBe_2 : List UInt8 := dkwX0_canBe_2 ++ dktX0_canBe_3
def dkwX0_canBe_1 : List UInt8 := [180, 1, 139, 162, 0, 49, 29, 42, 42, 180, 0, 10, 180, 1, 142, 21, 4, 50, 3, 46, 28, 182, 0, 197]
abbrev dktX0_canBe_1 : List UInt8 := dkwX0_canBe_1 ++ dktX0_canBe_2
def dkwX0_canBe_0 : List UInt8 := [3, 60, 3, 61, 28, 42, 182, 0, 125, 162, 0, 86, 4, 62, 3, 54, 4, 21, 4, 42, 180, 0, 10]
abbrev dktX0_canBe_0 : List UInt8 := dkwX0_canBe_0 ++ dktX0_canBe_1
theorem dksX0_canBe_0 : cX0_canBe.data.toList.drop 0 = dktX0_canBe_0 := by decide +kernel
theorem dksX0_canBe_1 : cX0_canBe.data.toList.drop 23 = dktX0_canBe_1 := dk_seg dksX0_canBe_0 23 rfl rfl
theorem dksX0_canBe_2 : cX0_canBe.data.toList.drop 47 = dktX0_canBe_2 := dk_seg dksX0_canBe_1 24 rfl rfl
theorem dksX0_canBe_3 : cX0_canBe.data.toList.drop 69 = dktX0_canBe_3 := dk_seg dksX0_canBe_2 22 rfl rfl
theorem dksX0_canBe_4 : cX0_canBe.data.toList.drop 92 = dktX0_canBe_4 := dk_seg dksX0_canBe_3 23 rfl rfl
theorem dX0_canBe_0 : decode cX0_canBe 0 = .ok (.iconst 0, 1) := dk_3 (dk_at dksX0_canBe_0 0 rfl rfl)
theorem dX0_canBe_1 : decode cX0_canBe 1 = .ok (.istore_n 1, 1) := dk_60 (dk_at dksX0_canBe_0 1 rfl rfl)
theorem dX0_canBe_2 : decode cX0_canBe 2 = .ok (.iconst 0, 1) := dk_3 (dk_at dksX0_canBe_0 2 rfl rfl)
theorem dX0_canBe_3 : decode cX0_canBe 3 = .ok (.istore_n 2, 1) := dk_61 (dk_at dksX0_canBe_0 3 rfl rfl)
theorem dX0_canBe_4 : decode cX0_canBe 4 = .ok (.iload_n 2, 1) := dk_28 (dk_at dksX0_canBe_0 4 rfl rfl)
theorem dX0_canBe_5 : decode cX0_canBe 5 = .ok (.aload_n 0, 1) := dk_42 (dk_at dksX0_canBe_0 5 rfl rfl)
theorem dX0_canBe_6 : decode cX0_canBe 6 = .ok (.invokevirtual 125, 3) := dk_182 0 125 (dk_at dksX0_canBe_0 6 rfl rfl)
theorem dX0_canBe_9 : decode cX0_canBe 9 = .ok (.if_icmp .ge 86, 3) := dk_162 0 86 (dk_at dksX0_canBe_0 9 rfl rfl)
theorem dX0_canBe_12 : decode cX0_canBe 12 = .ok (.iconst 1, 1) := dk_4 (dk_at dksX0_canBe_0 12 rfl rfl)
theorem dX0_canBe_13 : decode cX0_canBe 13 = .ok (.istore_n 3, 1) := dk_62 (dk_at dksX0_canBe_0 13 rfl rfl)
theorem dX0_canBe_14 : decode cX0_canBe 14 = .ok (.iconst 0, 1) := dk_3 (dk_at dksX0_canBe_0 14 rfl rfl)
theorem dX0_canBe_15 : decode cX0_canBe 15 = .ok (.istore 4, 2) := dk_54 4 (dk_at dksX0_canBe_0 15 rfl rfl)
theorem dX0_canBe_17 : decode cX0_canBe 17 = .ok (.iload 4, 2) := dk_21 4 (dk_at dksX0_canBe_0 17 rfl rfl)
theorem dX0_canBe_19 : decode cX0_canBe 19 = .ok (.aload_n 0, 1) := dk_42 (dk_at dksX0_canBe_0 19 rfl rfl)
theorem dX0_canBe_20 : decode cX0_canBe 20 = .ok (.getfield 10, 3) := dk_180 0 10 (dk_at dksX0_canBe_0 20 rfl rfl)
theorem dX0_canBe_23 : decode cX0_canBe 23 = .ok (.getfield 395, 3) := dk_180 1 139 (dk_at dksX0_canBe_1 0 rfl rfl)
theorem dX0_canBe_26 : decode cX0_canBe 26 = .ok (.if_icmp .ge 49, 3) := dk_162 0 49 (dk_at dksX0_canBe_1 3 rfl rfl)
theorem dX0_canBe_29 : decode cX0_canBe 29 = .ok (.iload_n 3, 1) := dk_29 (dk_at dksX0_canBe_1 6 rfl rfl)
theorem dX0_canBe_30 : decode cX0_canBe 30 = .ok (.aload_n 0, 1) := dk_42 (dk_at dksX0_canBe_1 7 rfl rfl)
theorem dX0_canBe_31 : decode cX0_canBe 31 = .ok (.aload_n 0, 1) := dk_42 (dk_at dksX0_canBe_1 8 rfl rfl)
theorem dX0_canBe_32 : decode cX0_canBe 32 = .ok (.getfield 10, 3) := dk_180 0 10 (dk_at dksX0_canBe_1 9 rfl rfl)
theorem dX0_canBe_35 : decode cX0_canBe 35 = .ok (.getfield 398, 3) := dk_180 1 142 (dk_at dksX0_canBe_1 12 rfl rfl)
theorem dX0_canBe_38 : decode cX0_canBe 38 = .ok (.iload 4, 2) := dk_21 4 (dk_at dksX0_canBe_1 15 rfl rfl)
theorem dX0_canBe_40 : decode cX0_canBe 40 = .ok (.aaload, 1) := dk_50 (dk_at dksX0_canBe_1 17 rfl rfl)
theorem dX0_canBe_41 : decode cX0_canBe 41 = .ok (.iconst 0, 1) := dk_3 (dk_at dksX0_canBe_1 18 rfl rfl)
theorem dX0_canBe_42 : decode cX0_canBe 42 = .ok (.iaload, 1) := dk_46 (dk_at dksX0_canBe_1 19 rfl rfl)
theorem dX0_canBe_43 : decode cX0_canBe 43 = .ok (.iload_n 2, 1) := dk_28 (dk_at dksX0_canBe_1 20 rfl rfl)
theorem dX0_canBe_44 : decode cX0_canBe 44 = .ok (.invokevirtual 197, 3) := dk_182 0 197 (dk_at dksX0_canBe_1 21 rfl rfl)
theorem dX0_canBe_47 : decode cX0_canBe 47 = .ok (.aload_n 0, 1) := dk_42 (dk_at dksX0_canBe_2 0 rfl rfl)
theorem dX0_canBe_48 : decode cX0_canBe 48 = .ok (.getfield 10, 3) := dk_180 0 10 (dk_at dksX0_canBe_2 1 rfl rfl)
theorem dX0_canBe_51 : decode cX0_canBe 51 = .ok (.getfield 398, 3) := dk_180 1 142 (dk_at dksX0_canBe_2 4 rfl rfl)
theorem dX0_canBe_54 : decode cX0_canBe 54 = .ok (.iload 4, 2) := dk_21 4 (dk_at dksX0_canBe_2 7 rfl rfl)
theorem dX0_canBe_56 : decode cX0_canBe 56 = .ok (.aaload, 1) := dk_50 (dk_at dksX0_canBe_2 9 rfl rfl)
theorem dX0_canBe_57 : decode cX0_canBe 57 = .ok (.iconst 1, 1) := dk_4 (dk_at dksX0_canBe_2 10 rfl rfl)
theorem dX0_canBe_58 : decode cX0_canBe 58 = .ok (.iaload, 1) := dk_46 (dk_at dksX0_canBe_2 11 rfl rfl)
theorem dX0_canBe_59 : decode cX0_canBe 59 = .ok (.if_icmp .ne 7, 3) := dk_160 0 7 (dk_at dksX0_canBe_2 12 rfl rfl)
theorem dX0_canBe_62 : decode cX0_canBe 62 = .ok (.iconst 1, 1) := dk_4 (dk_at dksX0_canBe_2 15 rfl rfl)
theorem dX0_canBe_63 : decode cX0_canBe 63 = .ok (.goto 4, 3) := dk_167 0 4 (dk_at dksX0_canBe_2 16 rfl rfl)
theorem dX0_canBe_66 : decode cX0_canBe 66 = .ok (.iconst 0, 1) := dk_3 (dk_at dksX0_canBe_2 19 rfl rfl)
theorem dX0_canBe_67 : decode cX0_canBe 67 = .ok (.iand, 1) := dk_126 (dk_at dksX0_canBe_2 20 rfl rfl)
theorem dX0_canBe_68 : decode cX0_canBe 68 = .ok (.istore_n 3, 1) := dk_62 (dk_at dksX0_canBe_2 21 rfl rfl)
theorem dX0_canBe_69 : decode cX0_canBe 69 = .ok (.iinc 4 1, 3) := dk_132 4 1 (dk_at dksX0_canBe_3 0 rfl rfl)
theorem dX0_canBe_72 : decode cX0_canBe 72 = .ok (.goto (-55), 3) := dk_167 255 201 (dk_at dksX0_canBe_3 3 rfl rfl)
theorem dX0_canBe_75 : decode cX0_canBe 75 = .ok (.iload_n 1, 1) := dk_27 (dk_at dksX0_canBe_3 6 rfl rfl)
theorem dX0_canBe_76 : decode cX0_canBe 76 = .ok (.iload_n 3, 1) := dk_29 (dk_at dksX0_canBe_3 7 rfl rfl)
theorem dX0_canBe_77 : decode cX0_canBe 77 = .ok (.ifCond .eq 9, 3) := dk_153 0 9 (dk_at dksX0_canBe_3 8 rfl rfl)
theorem dX0_canBe_80 : decode cX0_canBe 80 = .ok (.iconst 1, 1) := dk_4 (dk_at dksX0_canBe_3 11 rfl rfl)
theorem dX0_canBe_81 : decode cX0_canBe 81 = .ok (.iload_n 2, 1) := dk_28 (dk_at dksX0_canBe_3 12 rfl rfl)
theorem dX0_canBe_82 : decode cX0_canBe 82 = .ok (.ishl, 1) := dk_120 (dk_at dksX0_canBe_3 13 rfl rfl)
theorem dX0_canBe_83 : decode cX0_canBe 83 = .ok (.goto 4, 3) := dk_167 0 4 (dk_at dksX0_canBe_3 14 rfl rfl)
theorem dX0_canBe_86 : decode cX0_canBe 86 = .ok (.iconst 0, 1) := dk_3 (dk_at dksX0_canBe_3 17 rfl rfl)
theorem dX0_canBe_87 : decode cX0_canBe 87 = .ok (.ior, 1) := dk_128 (dk_at dksX0_canBe_3 18 rfl rfl)
theorem dX0_canBe_88 : decode cX0_canBe 88 = .ok (.istore_n 1, 1) := dk_60 (dk_at dksX0_canBe_3 19 rfl rfl)
theorem dX0_canBe_89 : decode cX0_canBe 89 = .ok (.iinc 2 1, 3) := dk_132 2 1 (dk_at dksX0_canBe_3 20 rfl rfl)
theorem dX0_canBe_92 : decode cX0_canBe 92 = .ok (.goto (-88), 3) := dk_167 255 168 (dk_at dksX0_canBe_4 0 rfl rfl)
theorem dX0_canBe_95 : decode cX0_canBe 95 = .ok (.iload_n 1, 1) := dk_27 (dk_at dksX0_canBe_4 3 rfl rfl)
theorem dX0_canBe_96 : decode cX0_canBe 96 = .ok (.ireturn, 1) := dk_172 (dk_at dksX0_canBe_4 4 rfl rfl)
abbrev cX0_look : ByteArray := prog_1_method_79_code
def yX0_look : MethodName := ⟨RX0, "look", "(I)I"⟩
def dkwX0_look_3 : List UInt8 := [21, 4, 2, 159, 0, 7, 27, 154, 0, 8, 21, 4, 167, 0, 4, 29, 172]
abbrev dktX0_look_3 : List UInt8 := dkwX0_look_3 ++ []
def dkwX0_look_2 : List UInt8 := [54, 6, 21, 6, 29, 161, 0, 6, 167, 0, 10, 21, 6, 62, 21, 5, 54, 4, 132, 5, 1, 167, 255, 219]
abbrev dktX0_look_2 : List UInt8 := dkwX0_look_2 ++ dktX0_look_3
def dkwX0_look_1 : List UInt8 := [154, 0, 5, 2, 172, 3, 54, 5, 21, 5, 42, 182, 0, 132, 162, 0, 34, 42, 28, 21, 5, 182, 1, 155]
abbrev dktX0_look_1 : List UInt8 := dkwX0_look_1 ++ dktX0_look_2
def dkwX0_look_0 : List UInt8 := [42, 182, 1, 152, 61, 19, 1, 136, 62, 2, 54, 4, 27, 133, 9, 10, 184, 0, 128, 153, 0, 7, 28]
abbrev dktX0_look_0 : List UInt8 := dkwX0_look_0 ++ dktX0_look_1
theorem dksX0_look_0 : cX0_look.data.toList.drop 0 = dktX0_look_0 := by decide +kernel
theorem dksX0_look_1 : cX0_look.data.toList.drop 23 = dktX0_look_1 := dk_seg dksX0_look_0 23 rfl rfl
theorem dksX0_look_2 : cX0_look.data.toList.drop 47 = dktX0_look_2 := dk_seg dksX0_look_1 24 rfl rfl
theorem dksX0_look_3 : cX0_look.data.toList.drop 71 = dktX0_look_3 := dk_seg dksX0_look_2 24 rfl rfl
theorem dX0_look_0 : decode cX0_look 0 = .ok (.aload_n 0, 1) := dk_42 (dk_at dksX0_look_0 0 rfl rfl)
theorem dX0_look_1 : decode cX0_look 1 = .ok (.invokevirtual 408, 3) := dk_182 1 152 (dk_at dksX0_look_0 1 rfl rfl)
theorem dX0_look_4 : decode cX0_look 4 = .ok (.istore_n 2, 1) := dk_61 (dk_at dksX0_look_0 4 rfl rfl)
theorem dX0_look_5 : decode cX0_look 5 = .ok (.ldc_w 392, 3) := dk_19 1 136 (dk_at dksX0_look_0 5 rfl rfl)
theorem dX0_look_8 : decode cX0_look 8 = .ok (.istore_n 3, 1) := dk_62 (dk_at dksX0_look_0 8 rfl rfl)
theorem dX0_look_9 : decode cX0_look 9 = .ok (.iconst (-1), 1) := dk_2 (dk_at dksX0_look_0 9 rfl rfl)
theorem dX0_look_10 : decode cX0_look 10 = .ok (.istore 4, 2) := dk_54 4 (dk_at dksX0_look_0 10 rfl rfl)
theorem dX0_look_12 : decode cX0_look 12 = .ok (.iload_n 1, 1) := dk_27 (dk_at dksX0_look_0 12 rfl rfl)
theorem dX0_look_13 : decode cX0_look 13 = .ok (.i2l, 1) := dk_133 (dk_at dksX0_look_0 13 rfl rfl)
theorem dX0_look_14 : decode cX0_look 14 = .ok (.lconst 0, 1) := dk_9 (dk_at dksX0_look_0 14 rfl rfl)
theorem dX0_look_15 : decode cX0_look 15 = .ok (.lconst 1, 1) := dk_10 (dk_at dksX0_look_0 15 rfl rfl)
theorem dX0_look_16 : decode cX0_look 16 = .ok (.invokestatic 128, 3) := dk_184 0 128 (dk_at dksX0_look_0 16 rfl rfl)
theorem dX0_look_19 : decode cX0_look 19 = .ok (.ifCond .eq 7, 3) := dk_153 0 7 (dk_at dksX0_look_0 19 rfl rfl)
theorem dX0_look_22 : decode cX0_look 22 = .ok (.iload_n 2, 1) := dk_28 (dk_at dksX0_look_0 22 rfl rfl)
theorem dX0_look_23 : decode cX0_look 23 = .ok (.ifCond .ne 5, 3) := dk_154 0 5 (dk_at dksX0_look_1 0 rfl rfl)
theorem dX0_look_26 : decode cX0_look 26 = .ok (.iconst (-1), 1) := dk_2 (dk_at dksX0_look_1 3 rfl rfl)
theorem dX0_look_27 : decode cX0_look 27 = .ok (.ireturn, 1) := dk_172 (dk_at dksX0_look_1 4 rfl rfl)
theorem dX0_look_28 : decode cX0_look 28 = .ok (.iconst 0, 1) := dk_3 (dk_at dksX0_look_1 5 rfl rfl)
theorem dX0_look_29 : decode cX0_look 29 = .ok (.istore 5, 2) := dk_54 5 (dk_at dksX0_look_1 6 rfl rfl)
theorem dX0_look_31 : decode cX0_look 31 = .ok (.iload 5, 2) := dk_21 5 (dk_at dksX0_look_1 8 rfl rfl)
theorem dX0_look_33 : decode cX0_look 33 = .ok (.aload_n 0, 1) := dk_42 (dk_at dksX0_look_1 10 rfl rfl)
theorem dX0_look_34 : decode cX0_look 34 = .ok (.invokevirtual 132, 3) := dk_182 0 132 (dk_at dksX0_look_1 11 rfl rfl)
theorem dX0_look_37 : decode cX0_look 37 = .ok (.if_icmp .ge 34, 3) := dk_162 0 34 (dk_at dksX0_look_1 14 rfl rfl)
theorem dX0_look_40 : decode cX0_look 40 = .ok (.aload_n 0, 1) := dk_42 (dk_at dksX0_look_1 17 rfl rfl)
theorem dX0_look_41 : decode cX0_look 41 = .ok (.iload_n 2, 1) := dk_28 (dk_at dksX0_look_1 18 rfl rfl)
theorem dX0_look_42 : decode cX0_look 42 = .ok (.iload 5, 2) := dk_21 5 (dk_at dksX0_look_1 19 rfl rfl)
theorem dX0_look_44 : decode cX0_look 44 = .ok (.invokevirtual 411, 3) := dk_182 1 155 (dk_at dksX0_look_1 21 rfl rfl)
theorem dX0_look_47 : decode cX0_look 47 = .ok (.istore 6, 2) := dk_54 6 (dk_at dksX0_look_2 0 rfl rfl)
theorem dX0_look_49 : decode cX0_look 49 = .ok (.iload 6, 2) := dk_21 6 (dk_at dksX0_look_2 2 rfl rfl)
theorem dX0_look_51 : decode cX0_look 51 = .ok (.iload_n 3, 1) := dk_29 (dk_at dksX0_look_2 4 rfl rfl)
theorem dX0_look_52 : decode cX0_look 52 = .ok (.if_icmp .lt 6, 3) := dk_161 0 6 (dk_at dksX0_look_2 5 rfl rfl)
theorem dX0_look_55 : decode cX0_look 55 = .ok (.goto 10, 3) := dk_167 0 10 (dk_at dksX0_look_2 8 rfl rfl)
theorem dX0_look_58 : decode cX0_look 58 = .ok (.iload 6, 2) := dk_21 6 (dk_at dksX0_look_2 11 rfl rfl)
theorem dX0_look_60 : decode cX0_look 60 = .ok (.istore_n 3, 1) := dk_62 (dk_at dksX0_look_2 13 rfl rfl)
theorem dX0_look_61 : decode cX0_look 61 = .ok (.iload 5, 2) := dk_21 5 (dk_at dksX0_look_2 14 rfl rfl)
theorem dX0_look_63 : decode cX0_look 63 = .ok (.istore 4, 2) := dk_54 4 (dk_at dksX0_look_2 16 rfl rfl)
theorem dX0_look_65 : decode cX0_look 65 = .ok (.iinc 5 1, 3) := dk_132 5 1 (dk_at dksX0_look_2 18 rfl rfl)
theorem dX0_look_68 : decode cX0_look 68 = .ok (.goto (-37), 3) := dk_167 255 219 (dk_at dksX0_look_2 21 rfl rfl)
theorem dX0_look_71 : decode cX0_look 71 = .ok (.iload 4, 2) := dk_21 4 (dk_at dksX0_look_3 0 rfl rfl)
theorem dX0_look_73 : decode cX0_look 73 = .ok (.iconst (-1), 1) := dk_2 (dk_at dksX0_look_3 2 rfl rfl)
theorem dX0_look_74 : decode cX0_look 74 = .ok (.if_icmp .eq 7, 3) := dk_159 0 7 (dk_at dksX0_look_3 3 rfl rfl)
theorem dX0_look_77 : decode cX0_look 77 = .ok (.iload_n 1, 1) := dk_27 (dk_at dksX0_look_3 6 rfl rfl)
theorem dX0_look_78 : decode cX0_look 78 = .ok (.ifCond .ne 8, 3) := dk_154 0 8 (dk_at dksX0_look_3 7 rfl rfl)
theorem dX0_look_81 : decode cX0_look 81 = .ok (.iload 4, 2) := dk_21 4 (dk_at dksX0_look_3 10 rfl rfl)
theorem dX0_look_83 : decode cX0_look 83 = .ok (.goto 4, 3) := dk_167 0 4 (dk_at dksX0_look_3 12 rfl rfl)
theorem dX0_look_86 : decode cX0_look 86 = .ok (.iload_n 3, 1) := dk_29 (dk_at dksX0_look_3 15 rfl rfl)
theorem dX0_look_87 : decode cX0_look 87 = .ok (.ireturn, 1) := dk_172 (dk_at dksX0_look_3 16 rfl rfl)
abbrev cX0_mostAlike : ByteArray := prog_1_method_78_code
def yX0_mostAlike : MethodName := ⟨RX0, "mostAlike", "(II)I"⟩
def dkwX0_mostAlike_2 : List UInt8 := [91, 79, 184, 1, 65, 62, 132, 4, 1, 167, 255, 213, 29, 172]
abbrev dktX0_mostAlike_2 : List UInt8 := dkwX0_mostAlike_2 ++ []
def dkwX0_mostAlike_1 : List UInt8 := [21, 4, 184, 0, 141, 153, 0, 25, 29, 42, 180, 0, 88, 42, 28, 21, 4, 182, 0, 197, 92, 46, 4, 96]
abbrev dktX0_mostAlike_1 : List UInt8 := dkwX0_mostAlike_1 ++ dktX0_mostAlike_2
def dkwX0_mostAlike_0 : List UInt8 := [42, 180, 0, 88, 3, 184, 1, 146, 3, 62, 3, 54, 4, 21, 4, 42, 182, 0, 125, 162, 0, 40, 27]
abbrev dktX0_mostAlike_0 : List UInt8 := dkwX0_mostAlike_0 ++ dktX0_mostAlike_1
theorem dksX0_mostAlike_0 : cX0_mostAlike.data.toList.drop 0 = dktX0_mostAlike_0 := by decide +kernel
theorem dksX0_mostAlike_1 : cX0_mostAlike.data.toList.drop 23 = dktX0_mostAlike_1 := dk_seg dksX0_mostAlike_0 23 rfl rfl
theorem dksX0_mostAlike_2 : cX0_mostAlike.data.toList.drop 47 = dktX0_mostAlike_2 := dk_seg dksX0_mostAlike_1 24 rfl rfl
theorem dX0_mostAlike_0 : decode cX0_mostAlike 0 = .ok (.aload_n 0, 1) := dk_42 (dk_at dksX0_mostAlike_0 0 rfl rfl)
theorem dX0_mostAlike_1 : decode cX0_mostAlike 1 = .ok (.getfield 88, 3) := dk_180 0 88 (dk_at dksX0_mostAlike_0 1 rfl rfl)
theorem dX0_mostAlike_4 : decode cX0_mostAlike 4 = .ok (.iconst 0, 1) := dk_3 (dk_at dksX0_mostAlike_0 4 rfl rfl)
theorem dX0_mostAlike_5 : decode cX0_mostAlike 5 = .ok (.invokestatic 402, 3) := dk_184 1 146 (dk_at dksX0_mostAlike_0 5 rfl rfl)
theorem dX0_mostAlike_8 : decode cX0_mostAlike 8 = .ok (.iconst 0, 1) := dk_3 (dk_at dksX0_mostAlike_0 8 rfl rfl)
theorem dX0_mostAlike_9 : decode cX0_mostAlike 9 = .ok (.istore_n 3, 1) := dk_62 (dk_at dksX0_mostAlike_0 9 rfl rfl)
theorem dX0_mostAlike_10 : decode cX0_mostAlike 10 = .ok (.iconst 0, 1) := dk_3 (dk_at dksX0_mostAlike_0 10 rfl rfl)
theorem dX0_mostAlike_11 : decode cX0_mostAlike 11 = .ok (.istore 4, 2) := dk_54 4 (dk_at dksX0_mostAlike_0 11 rfl rfl)
theorem dX0_mostAlike_13 : decode cX0_mostAlike 13 = .ok (.iload 4, 2) := dk_21 4 (dk_at dksX0_mostAlike_0 13 rfl rfl)
theorem dX0_mostAlike_15 : decode cX0_mostAlike 15 = .ok (.aload_n 0, 1) := dk_42 (dk_at dksX0_mostAlike_0 15 rfl rfl)
theorem dX0_mostAlike_16 : decode cX0_mostAlike 16 = .ok (.invokevirtual 125, 3) := dk_182 0 125 (dk_at dksX0_mostAlike_0 16 rfl rfl)
theorem dX0_mostAlike_19 : decode cX0_mostAlike 19 = .ok (.if_icmp .ge 40, 3) := dk_162 0 40 (dk_at dksX0_mostAlike_0 19 rfl rfl)
theorem dX0_mostAlike_22 : decode cX0_mostAlike 22 = .ok (.iload_n 1, 1) := dk_27 (dk_at dksX0_mostAlike_0 22 rfl rfl)
theorem dX0_mostAlike_23 : decode cX0_mostAlike 23 = .ok (.iload 4, 2) := dk_21 4 (dk_at dksX0_mostAlike_1 0 rfl rfl)
theorem dX0_mostAlike_25 : decode cX0_mostAlike 25 = .ok (.invokestatic 141, 3) := dk_184 0 141 (dk_at dksX0_mostAlike_1 2 rfl rfl)
theorem dX0_mostAlike_28 : decode cX0_mostAlike 28 = .ok (.ifCond .eq 25, 3) := dk_153 0 25 (dk_at dksX0_mostAlike_1 5 rfl rfl)
theorem dX0_mostAlike_31 : decode cX0_mostAlike 31 = .ok (.iload_n 3, 1) := dk_29 (dk_at dksX0_mostAlike_1 8 rfl rfl)
theorem dX0_mostAlike_32 : decode cX0_mostAlike 32 = .ok (.aload_n 0, 1) := dk_42 (dk_at dksX0_mostAlike_1 9 rfl rfl)
theorem dX0_mostAlike_33 : decode cX0_mostAlike 33 = .ok (.getfield 88, 3) := dk_180 0 88 (dk_at dksX0_mostAlike_1 10 rfl rfl)
theorem dX0_mostAlike_36 : decode cX0_mostAlike 36 = .ok (.aload_n 0, 1) := dk_42 (dk_at dksX0_mostAlike_1 13 rfl rfl)
theorem dX0_mostAlike_37 : decode cX0_mostAlike 37 = .ok (.iload_n 2, 1) := dk_28 (dk_at dksX0_mostAlike_1 14 rfl rfl)
theorem dX0_mostAlike_38 : decode cX0_mostAlike 38 = .ok (.iload 4, 2) := dk_21 4 (dk_at dksX0_mostAlike_1 15 rfl rfl)
theorem dX0_mostAlike_40 : decode cX0_mostAlike 40 = .ok (.invokevirtual 197, 3) := dk_182 0 197 (dk_at dksX0_mostAlike_1 17 rfl rfl)
theorem dX0_mostAlike_43 : decode cX0_mostAlike 43 = .ok (.dup2, 1) := dk_92 (dk_at dksX0_mostAlike_1 20 rfl rfl)
theorem dX0_mostAlike_44 : decode cX0_mostAlike 44 = .ok (.iaload, 1) := dk_46 (dk_at dksX0_mostAlike_1 21 rfl rfl)
theorem dX0_mostAlike_45 : decode cX0_mostAlike 45 = .ok (.iconst 1, 1) := dk_4 (dk_at dksX0_mostAlike_1 22 rfl rfl)
theorem dX0_mostAlike_46 : decode cX0_mostAlike 46 = .ok (.iadd, 1) := dk_96 (dk_at dksX0_mostAlike_1 23 rfl rfl)
theorem dX0_mostAlike_47 : decode cX0_mostAlike 47 = .ok (.dup_x2, 1) := dk_91 (dk_at dksX0_mostAlike_2 0 rfl rfl)
theorem dX0_mostAlike_48 : decode cX0_mostAlike 48 = .ok (.iastore, 1) := dk_79 (dk_at dksX0_mostAlike_2 1 rfl rfl)
theorem dX0_mostAlike_49 : decode cX0_mostAlike 49 = .ok (.invokestatic 321, 3) := dk_184 1 65 (dk_at dksX0_mostAlike_2 2 rfl rfl)
theorem dX0_mostAlike_52 : decode cX0_mostAlike 52 = .ok (.istore_n 3, 1) := dk_62 (dk_at dksX0_mostAlike_2 5 rfl rfl)
theorem dX0_mostAlike_53 : decode cX0_mostAlike 53 = .ok (.iinc 4 1, 3) := dk_132 4 1 (dk_at dksX0_mostAlike_2 6 rfl rfl)
theorem dX0_mostAlike_56 : decode cX0_mostAlike 56 = .ok (.goto (-43), 3) := dk_167 255 213 (dk_at dksX0_mostAlike_2 9 rfl rfl)
theorem dX0_mostAlike_59 : decode cX0_mostAlike 59 = .ok (.iload_n 3, 1) := dk_29 (dk_at dksX0_mostAlike_2 12 rfl rfl)
theorem dX0_mostAlike_60 : decode cX0_mostAlike 60 = .ok (.ireturn, 1) := dk_172 (dk_at dksX0_mostAlike_2 13 rfl rfl)
abbrev cX0_few : ByteArray := prog_1_method_80_code
def yX0_few : MethodName := ⟨RX0, "few", "(II)J"⟩
def dkwX0_few_6 : List UInt8 := [132, 7, 1, 167, 255, 238, 22, 5, 173]
abbrev dktX0_few_6 : List UInt8 := dkwX0_few_6 ++ []
def dkwX0_few_5 : List UInt8 := [167, 255, 191, 9, 55, 5, 3, 54, 7, 21, 7, 27, 162, 0, 18, 22, 5, 45, 21, 7, 47, 97, 55, 5]
abbrev dktX0_few_5 : List UInt8 := dkwX0_few_5 ++ dktX0_few_6
def dkwX0_few_4 : List UInt8 := [47, 16, 10, 21, 4, 100, 133, 105, 20, 0, 202, 109, 80, 132, 6, 255, 167, 255, 208, 132, 5, 1]
abbrev dktX0_few_4 : List UInt8 := dkwX0_few_4 ++ dktX0_few_5
def dkwX0_few_3 : List UInt8 := [4, 96, 92, 47, 45, 21, 6, 47, 21, 4, 133, 105, 20, 0, 202, 109, 97, 80, 45, 21, 6, 45, 21, 6]
abbrev dktX0_few_3 : List UInt8 := dkwX0_few_3 ++ dktX0_few_4
def dkwX0_few_2 : List UInt8 := [54, 4, 3, 54, 5, 21, 5, 28, 162, 0, 65, 27, 4, 100, 54, 6, 21, 6, 155, 0, 49, 45, 21, 6]
abbrev dktX0_few_2 : List UInt8 := dkwX0_few_2 ++ dktX0_few_3
def dkwX0_few_1 : List UInt8 := [20, 1, 19, 173, 16, 21, 188, 11, 78, 45, 3, 20, 1, 160, 80, 42, 180, 0, 10, 180, 0, 207, 4, 46]
abbrev dktX0_few_1 : List UInt8 := dkwX0_few_1 ++ dktX0_few_2
def dkwX0_few_0 : List UInt8 := [27, 133, 10, 20, 1, 158, 184, 0, 128, 153, 0, 15, 28, 133, 9, 20, 1, 137, 184, 0, 128, 154, 0, 7]
abbrev dktX0_few_0 : List UInt8 := dkwX0_few_0 ++ dktX0_few_1
theorem dksX0_few_0 : cX0_few.data.toList.drop 0 = dktX0_few_0 := by decide +kernel
theorem dksX0_few_1 : cX0_few.data.toList.drop 24 = dktX0_few_1 := dk_seg dksX0_few_0 24 rfl rfl
theorem dksX0_few_2 : cX0_few.data.toList.drop 48 = dktX0_few_2 := dk_seg dksX0_few_1 24 rfl rfl
theorem dksX0_few_3 : cX0_few.data.toList.drop 72 = dktX0_few_3 := dk_seg dksX0_few_2 24 rfl rfl
theorem dksX0_few_4 : cX0_few.data.toList.drop 96 = dktX0_few_4 := dk_seg dksX0_few_3 24 rfl rfl
theorem dksX0_few_5 : cX0_few.data.toList.drop 118 = dktX0_few_5 := dk_seg dksX0_few_4 22 rfl rfl
theorem dksX0_few_6 : cX0_few.data.toList.drop 142 = dktX0_few_6 := dk_seg dksX0_few_5 24 rfl rfl
theorem dX0_few_0 : decode cX0_few 0 = .ok (.iload_n 1, 1) := dk_27 (dk_at dksX0_few_0 0 rfl rfl)
theorem dX0_few_1 : decode cX0_few 1 = .ok (.i2l, 1) := dk_133 (dk_at dksX0_few_0 1 rfl rfl)
theorem dX0_few_2 : decode cX0_few 2 = .ok (.lconst 1, 1) := dk_10 (dk_at dksX0_few_0 2 rfl rfl)
theorem dX0_few_3 : decode cX0_few 3 = .ok (.ldc2_w 414, 3) := dk_20 1 158 (dk_at dksX0_few_0 3 rfl rfl)
theorem dX0_few_6 : decode cX0_few 6 = .ok (.invokestatic 128, 3) := dk_184 0 128 (dk_at dksX0_few_0 6 rfl rfl)
theorem dX0_few_9 : decode cX0_few 9 = .ok (.ifCond .eq 15, 3) := dk_153 0 15 (dk_at dksX0_few_0 9 rfl rfl)
theorem dX0_few_12 : decode cX0_few 12 = .ok (.iload_n 2, 1) := dk_28 (dk_at dksX0_few_0 12 rfl rfl)
theorem dX0_few_13 : decode cX0_few 13 = .ok (.i2l, 1) := dk_133 (dk_at dksX0_few_0 13 rfl rfl)
theorem dX0_few_14 : decode cX0_few 14 = .ok (.lconst 0, 1) := dk_9 (dk_at dksX0_few_0 14 rfl rfl)
theorem dX0_few_15 : decode cX0_few 15 = .ok (.ldc2_w 393, 3) := dk_20 1 137 (dk_at dksX0_few_0 15 rfl rfl)
theorem dX0_few_18 : decode cX0_few 18 = .ok (.invokestatic 128, 3) := dk_184 0 128 (dk_at dksX0_few_0 18 rfl rfl)
theorem dX0_few_21 : decode cX0_few 21 = .ok (.ifCond .ne 7, 3) := dk_154 0 7 (dk_at dksX0_few_0 21 rfl rfl)
theorem dX0_few_24 : decode cX0_few 24 = .ok (.ldc2_w 275, 3) := dk_20 1 19 (dk_at dksX0_few_1 0 rfl rfl)
theorem dX0_few_27 : decode cX0_few 27 = .ok (.lreturn, 1) := dk_173 (dk_at dksX0_few_1 3 rfl rfl)
theorem dX0_few_28 : decode cX0_few 28 = .ok (.bipush 21, 2) := dk_16 21 (dk_at dksX0_few_1 4 rfl rfl)
theorem dX0_few_30 : decode cX0_few 30 = .ok (.newarray .long, 2) := dk_188_11 (dk_at dksX0_few_1 6 rfl rfl)
theorem dX0_few_32 : decode cX0_few 32 = .ok (.astore_n 3, 1) := dk_78 (dk_at dksX0_few_1 8 rfl rfl)
theorem dX0_few_33 : decode cX0_few 33 = .ok (.aload_n 3, 1) := dk_45 (dk_at dksX0_few_1 9 rfl rfl)
theorem dX0_few_34 : decode cX0_few 34 = .ok (.iconst 0, 1) := dk_3 (dk_at dksX0_few_1 10 rfl rfl)
theorem dX0_few_35 : decode cX0_few 35 = .ok (.ldc2_w 416, 3) := dk_20 1 160 (dk_at dksX0_few_1 11 rfl rfl)
theorem dX0_few_38 : decode cX0_few 38 = .ok (.lastore, 1) := dk_80 (dk_at dksX0_few_1 14 rfl rfl)
theorem dX0_few_39 : decode cX0_few 39 = .ok (.aload_n 0, 1) := dk_42 (dk_at dksX0_few_1 15 rfl rfl)
theorem dX0_few_40 : decode cX0_few 40 = .ok (.getfield 10, 3) := dk_180 0 10 (dk_at dksX0_few_1 16 rfl rfl)
theorem dX0_few_43 : decode cX0_few 43 = .ok (.getfield 207, 3) := dk_180 0 207 (dk_at dksX0_few_1 19 rfl rfl)
theorem dX0_few_46 : decode cX0_few 46 = .ok (.iconst 1, 1) := dk_4 (dk_at dksX0_few_1 22 rfl rfl)
theorem dX0_few_47 : decode cX0_few 47 = .ok (.iaload, 1) := dk_46 (dk_at dksX0_few_1 23 rfl rfl)
theorem dX0_few_48 : decode cX0_few 48 = .ok (.istore 4, 2) := dk_54 4 (dk_at dksX0_few_2 0 rfl rfl)
theorem dX0_few_50 : decode cX0_few 50 = .ok (.iconst 0, 1) := dk_3 (dk_at dksX0_few_2 2 rfl rfl)
theorem dX0_few_51 : decode cX0_few 51 = .ok (.istore 5, 2) := dk_54 5 (dk_at dksX0_few_2 3 rfl rfl)
theorem dX0_few_53 : decode cX0_few 53 = .ok (.iload 5, 2) := dk_21 5 (dk_at dksX0_few_2 5 rfl rfl)
theorem dX0_few_55 : decode cX0_few 55 = .ok (.iload_n 2, 1) := dk_28 (dk_at dksX0_few_2 7 rfl rfl)
theorem dX0_few_56 : decode cX0_few 56 = .ok (.if_icmp .ge 65, 3) := dk_162 0 65 (dk_at dksX0_few_2 8 rfl rfl)
theorem dX0_few_59 : decode cX0_few 59 = .ok (.iload_n 1, 1) := dk_27 (dk_at dksX0_few_2 11 rfl rfl)
theorem dX0_few_60 : decode cX0_few 60 = .ok (.iconst 1, 1) := dk_4 (dk_at dksX0_few_2 12 rfl rfl)
theorem dX0_few_61 : decode cX0_few 61 = .ok (.isub, 1) := dk_100 (dk_at dksX0_few_2 13 rfl rfl)
theorem dX0_few_62 : decode cX0_few 62 = .ok (.istore 6, 2) := dk_54 6 (dk_at dksX0_few_2 14 rfl rfl)
theorem dX0_few_64 : decode cX0_few 64 = .ok (.iload 6, 2) := dk_21 6 (dk_at dksX0_few_2 16 rfl rfl)
theorem dX0_few_66 : decode cX0_few 66 = .ok (.ifCond .lt 49, 3) := dk_155 0 49 (dk_at dksX0_few_2 18 rfl rfl)
theorem dX0_few_69 : decode cX0_few 69 = .ok (.aload_n 3, 1) := dk_45 (dk_at dksX0_few_2 21 rfl rfl)
theorem dX0_few_70 : decode cX0_few 70 = .ok (.iload 6, 2) := dk_21 6 (dk_at dksX0_few_2 22 rfl rfl)
theorem dX0_few_72 : decode cX0_few 72 = .ok (.iconst 1, 1) := dk_4 (dk_at dksX0_few_3 0 rfl rfl)
theorem dX0_few_73 : decode cX0_few 73 = .ok (.iadd, 1) := dk_96 (dk_at dksX0_few_3 1 rfl rfl)
theorem dX0_few_74 : decode cX0_few 74 = .ok (.dup2, 1) := dk_92 (dk_at dksX0_few_3 2 rfl rfl)
theorem dX0_few_75 : decode cX0_few 75 = .ok (.laload, 1) := dk_47 (dk_at dksX0_few_3 3 rfl rfl)
theorem dX0_few_76 : decode cX0_few 76 = .ok (.aload_n 3, 1) := dk_45 (dk_at dksX0_few_3 4 rfl rfl)
theorem dX0_few_77 : decode cX0_few 77 = .ok (.iload 6, 2) := dk_21 6 (dk_at dksX0_few_3 5 rfl rfl)
theorem dX0_few_79 : decode cX0_few 79 = .ok (.laload, 1) := dk_47 (dk_at dksX0_few_3 7 rfl rfl)
theorem dX0_few_80 : decode cX0_few 80 = .ok (.iload 4, 2) := dk_21 4 (dk_at dksX0_few_3 8 rfl rfl)
theorem dX0_few_82 : decode cX0_few 82 = .ok (.i2l, 1) := dk_133 (dk_at dksX0_few_3 10 rfl rfl)
theorem dX0_few_83 : decode cX0_few 83 = .ok (.lmul, 1) := dk_105 (dk_at dksX0_few_3 11 rfl rfl)
theorem dX0_few_84 : decode cX0_few 84 = .ok (.ldc2_w 202, 3) := dk_20 0 202 (dk_at dksX0_few_3 12 rfl rfl)
theorem dX0_few_87 : decode cX0_few 87 = .ok (.ldiv, 1) := dk_109 (dk_at dksX0_few_3 15 rfl rfl)
theorem dX0_few_88 : decode cX0_few 88 = .ok (.ladd, 1) := dk_97 (dk_at dksX0_few_3 16 rfl rfl)
theorem dX0_few_89 : decode cX0_few 89 = .ok (.lastore, 1) := dk_80 (dk_at dksX0_few_3 17 rfl rfl)
theorem dX0_few_90 : decode cX0_few 90 = .ok (.aload_n 3, 1) := dk_45 (dk_at dksX0_few_3 18 rfl rfl)
theorem dX0_few_91 : decode cX0_few 91 = .ok (.iload 6, 2) := dk_21 6 (dk_at dksX0_few_3 19 rfl rfl)
theorem dX0_few_93 : decode cX0_few 93 = .ok (.aload_n 3, 1) := dk_45 (dk_at dksX0_few_3 21 rfl rfl)
theorem dX0_few_94 : decode cX0_few 94 = .ok (.iload 6, 2) := dk_21 6 (dk_at dksX0_few_3 22 rfl rfl)
theorem dX0_few_96 : decode cX0_few 96 = .ok (.laload, 1) := dk_47 (dk_at dksX0_few_4 0 rfl rfl)
theorem dX0_few_97 : decode cX0_few 97 = .ok (.bipush 10, 2) := dk_16 10 (dk_at dksX0_few_4 1 rfl rfl)
theorem dX0_few_99 : decode cX0_few 99 = .ok (.iload 4, 2) := dk_21 4 (dk_at dksX0_few_4 3 rfl rfl)
theorem dX0_few_101 : decode cX0_few 101 = .ok (.isub, 1) := dk_100 (dk_at dksX0_few_4 5 rfl rfl)
theorem dX0_few_102 : decode cX0_few 102 = .ok (.i2l, 1) := dk_133 (dk_at dksX0_few_4 6 rfl rfl)
theorem dX0_few_103 : decode cX0_few 103 = .ok (.lmul, 1) := dk_105 (dk_at dksX0_few_4 7 rfl rfl)
theorem dX0_few_104 : decode cX0_few 104 = .ok (.ldc2_w 202, 3) := dk_20 0 202 (dk_at dksX0_few_4 8 rfl rfl)
theorem dX0_few_107 : decode cX0_few 107 = .ok (.ldiv, 1) := dk_109 (dk_at dksX0_few_4 11 rfl rfl)
theorem dX0_few_108 : decode cX0_few 108 = .ok (.lastore, 1) := dk_80 (dk_at dksX0_few_4 12 rfl rfl)
theorem dX0_few_109 : decode cX0_few 109 = .ok (.iinc 6 (-1), 3) := dk_132 6 255 (dk_at dksX0_few_4 13 rfl rfl)
theorem dX0_few_112 : decode cX0_few 112 = .ok (.goto (-48), 3) := dk_167 255 208 (dk_at dksX0_few_4 16 rfl rfl)
theorem dX0_few_115 : decode cX0_few 115 = .ok (.iinc 5 1, 3) := dk_132 5 1 (dk_at dksX0_few_4 19 rfl rfl)
theorem dX0_few_118 : decode cX0_few 118 = .ok (.goto (-65), 3) := dk_167 255 191 (dk_at dksX0_few_5 0 rfl rfl)
theorem dX0_few_121 : decode cX0_few 121 = .ok (.lconst 0, 1) := dk_9 (dk_at dksX0_few_5 3 rfl rfl)
theorem dX0_few_122 : decode cX0_few 122 = .ok (.lstore 5, 2) := dk_55 5 (dk_at dksX0_few_5 4 rfl rfl)
theorem dX0_few_124 : decode cX0_few 124 = .ok (.iconst 0, 1) := dk_3 (dk_at dksX0_few_5 6 rfl rfl)
theorem dX0_few_125 : decode cX0_few 125 = .ok (.istore 7, 2) := dk_54 7 (dk_at dksX0_few_5 7 rfl rfl)
theorem dX0_few_127 : decode cX0_few 127 = .ok (.iload 7, 2) := dk_21 7 (dk_at dksX0_few_5 9 rfl rfl)
theorem dX0_few_129 : decode cX0_few 129 = .ok (.iload_n 1, 1) := dk_27 (dk_at dksX0_few_5 11 rfl rfl)
theorem dX0_few_130 : decode cX0_few 130 = .ok (.if_icmp .ge 18, 3) := dk_162 0 18 (dk_at dksX0_few_5 12 rfl rfl)
theorem dX0_few_133 : decode cX0_few 133 = .ok (.lload 5, 2) := dk_22 5 (dk_at dksX0_few_5 15 rfl rfl)
theorem dX0_few_135 : decode cX0_few 135 = .ok (.aload_n 3, 1) := dk_45 (dk_at dksX0_few_5 17 rfl rfl)
theorem dX0_few_136 : decode cX0_few 136 = .ok (.iload 7, 2) := dk_21 7 (dk_at dksX0_few_5 18 rfl rfl)
theorem dX0_few_138 : decode cX0_few 138 = .ok (.laload, 1) := dk_47 (dk_at dksX0_few_5 20 rfl rfl)
theorem dX0_few_139 : decode cX0_few 139 = .ok (.ladd, 1) := dk_97 (dk_at dksX0_few_5 21 rfl rfl)
theorem dX0_few_140 : decode cX0_few 140 = .ok (.lstore 5, 2) := dk_55 5 (dk_at dksX0_few_5 22 rfl rfl)
theorem dX0_few_142 : decode cX0_few 142 = .ok (.iinc 7 1, 3) := dk_132 7 1 (dk_at dksX0_few_6 0 rfl rfl)
theorem dX0_few_145 : decode cX0_few 145 = .ok (.goto (-18), 3) := dk_167 255 238 (dk_at dksX0_few_6 3 rfl rfl)
theorem dX0_few_148 : decode cX0_few 148 = .ok (.lload 5, 2) := dk_22 5 (dk_at dksX0_few_6 6 rfl rfl)
theorem dX0_few_150 : decode cX0_few 150 = .ok (.lreturn, 1) := dk_173 (dk_at dksX0_few_6 8 rfl rfl)
abbrev cX0_orders : ByteArray := prog_1_method_82_code
def yX0_orders : MethodName := ⟨RX0, "orders", "()I"⟩
def dkwX0_orders_5 : List UInt8 := [87, 42, 180, 0, 23, 42, 180, 0, 27, 182, 1, 179, 42, 28, 182, 0, 112, 172]
abbrev dktX0_orders_5 : List UInt8 := dkwX0_orders_5 ++ []
def dkwX0_orders_4 : List UInt8 := [181, 1, 182, 42, 43, 182, 1, 185, 61, 28, 156, 0, 26, 42, 182, 0, 135, 42, 180, 0, 33, 182, 1, 78]
abbrev dktX0_orders_4 : List UInt8 := dkwX0_orders_4 ++ dktX0_orders_5
def dkwX0_orders_3 : List UInt8 := [182, 1, 78, 87, 42, 180, 0, 27, 42, 180, 0, 23, 182, 1, 179, 42, 3, 181, 1, 170, 42, 2]
abbrev dktX0_orders_3 : List UInt8 := dkwX0_orders_3 ++ dktX0_orders_4
def dkwX0_orders_2 : List UInt8 := [181, 0, 148, 29, 172, 58, 4, 42, 3, 181, 0, 148, 25, 4, 191, 42, 180, 0, 33, 42, 182, 0, 135]
abbrev dktX0_orders_2 : List UInt8 := dkwX0_orders_2 ++ dktX0_orders_3
def dkwX0_orders_1 : List UInt8 := [181, 0, 148, 167, 0, 36, 77, 42, 44, 180, 1, 2, 181, 0, 65, 42, 16, 250, 182, 0, 112, 62, 42, 3]
abbrev dktX0_orders_1 : List UInt8 := dkwX0_orders_1 ++ dktX0_orders_2
def dkwX0_orders_0 : List UInt8 := [42, 2, 181, 0, 69, 187, 1, 173, 89, 42, 183, 1, 175, 182, 1, 176, 76, 42, 2, 181, 0, 65, 42, 3]
abbrev dktX0_orders_0 : List UInt8 := dkwX0_orders_0 ++ dktX0_orders_1
theorem dksX0_orders_0 : cX0_orders.data.toList.drop 0 = dktX0_orders_0 := by decide +kernel
theorem dksX0_orders_1 : cX0_orders.data.toList.drop 24 = dktX0_orders_1 := dk_seg dksX0_orders_0 24 rfl rfl
theorem dksX0_orders_2 : cX0_orders.data.toList.drop 48 = dktX0_orders_2 := dk_seg dksX0_orders_1 24 rfl rfl
theorem dksX0_orders_3 : cX0_orders.data.toList.drop 71 = dktX0_orders_3 := dk_seg dksX0_orders_2 23 rfl rfl
theorem dksX0_orders_4 : cX0_orders.data.toList.drop 93 = dktX0_orders_4 := dk_seg dksX0_orders_3 22 rfl rfl
theorem dksX0_orders_5 : cX0_orders.data.toList.drop 117 = dktX0_orders_5 := dk_seg dksX0_orders_4 24 rfl rfl
theorem dX0_orders_0 : decode cX0_orders 0 = .ok (.aload_n 0, 1) := dk_42 (dk_at dksX0_orders_0 0 rfl rfl)
theorem dX0_orders_1 : decode cX0_orders 1 = .ok (.iconst (-1), 1) := dk_2 (dk_at dksX0_orders_0 1 rfl rfl)
theorem dX0_orders_2 : decode cX0_orders 2 = .ok (.putfield 69, 3) := dk_181 0 69 (dk_at dksX0_orders_0 2 rfl rfl)
theorem dX0_orders_5 : decode cX0_orders 5 = .ok (.new 429, 3) := dk_187 1 173 (dk_at dksX0_orders_0 5 rfl rfl)
theorem dX0_orders_8 : decode cX0_orders 8 = .ok (.dup, 1) := dk_89 (dk_at dksX0_orders_0 8 rfl rfl)
theorem dX0_orders_9 : decode cX0_orders 9 = .ok (.aload_n 0, 1) := dk_42 (dk_at dksX0_orders_0 9 rfl rfl)
theorem dX0_orders_10 : decode cX0_orders 10 = .ok (.invokespecial 431, 3) := dk_183 1 175 (dk_at dksX0_orders_0 10 rfl rfl)
theorem dX0_orders_13 : decode cX0_orders 13 = .ok (.invokevirtual 432, 3) := dk_182 1 176 (dk_at dksX0_orders_0 13 rfl rfl)
theorem dX0_orders_16 : decode cX0_orders 16 = .ok (.astore_n 1, 1) := dk_76 (dk_at dksX0_orders_0 16 rfl rfl)
theorem dX0_orders_17 : decode cX0_orders 17 = .ok (.aload_n 0, 1) := dk_42 (dk_at dksX0_orders_0 17 rfl rfl)
theorem dX0_orders_18 : decode cX0_orders 18 = .ok (.iconst (-1), 1) := dk_2 (dk_at dksX0_orders_0 18 rfl rfl)
theorem dX0_orders_19 : decode cX0_orders 19 = .ok (.putfield 65, 3) := dk_181 0 65 (dk_at dksX0_orders_0 19 rfl rfl)
theorem dX0_orders_22 : decode cX0_orders 22 = .ok (.aload_n 0, 1) := dk_42 (dk_at dksX0_orders_0 22 rfl rfl)
theorem dX0_orders_23 : decode cX0_orders 23 = .ok (.iconst 0, 1) := dk_3 (dk_at dksX0_orders_0 23 rfl rfl)
theorem dX0_orders_24 : decode cX0_orders 24 = .ok (.putfield 148, 3) := dk_181 0 148 (dk_at dksX0_orders_1 0 rfl rfl)
theorem dX0_orders_27 : decode cX0_orders 27 = .ok (.goto 36, 3) := dk_167 0 36 (dk_at dksX0_orders_1 3 rfl rfl)
theorem dX0_orders_30 : decode cX0_orders 30 = .ok (.astore_n 2, 1) := dk_77 (dk_at dksX0_orders_1 6 rfl rfl)
theorem dX0_orders_31 : decode cX0_orders 31 = .ok (.aload_n 0, 1) := dk_42 (dk_at dksX0_orders_1 7 rfl rfl)
theorem dX0_orders_32 : decode cX0_orders 32 = .ok (.aload_n 2, 1) := dk_44 (dk_at dksX0_orders_1 8 rfl rfl)
theorem dX0_orders_33 : decode cX0_orders 33 = .ok (.getfield 258, 3) := dk_180 1 2 (dk_at dksX0_orders_1 9 rfl rfl)
theorem dX0_orders_36 : decode cX0_orders 36 = .ok (.putfield 65, 3) := dk_181 0 65 (dk_at dksX0_orders_1 12 rfl rfl)
theorem dX0_orders_39 : decode cX0_orders 39 = .ok (.aload_n 0, 1) := dk_42 (dk_at dksX0_orders_1 15 rfl rfl)
theorem dX0_orders_40 : decode cX0_orders 40 = .ok (.bipush (-6), 2) := dk_16 250 (dk_at dksX0_orders_1 16 rfl rfl)
theorem dX0_orders_42 : decode cX0_orders 42 = .ok (.invokevirtual 112, 3) := dk_182 0 112 (dk_at dksX0_orders_1 18 rfl rfl)
theorem dX0_orders_45 : decode cX0_orders 45 = .ok (.istore_n 3, 1) := dk_62 (dk_at dksX0_orders_1 21 rfl rfl)
theorem dX0_orders_46 : decode cX0_orders 46 = .ok (.aload_n 0, 1) := dk_42 (dk_at dksX0_orders_1 22 rfl rfl)
theorem dX0_orders_47 : decode cX0_orders 47 = .ok (.iconst 0, 1) := dk_3 (dk_at dksX0_orders_1 23 rfl rfl)
theorem dX0_orders_48 : decode cX0_orders 48 = .ok (.putfield 148, 3) := dk_181 0 148 (dk_at dksX0_orders_2 0 rfl rfl)
theorem dX0_orders_51 : decode cX0_orders 51 = .ok (.iload_n 3, 1) := dk_29 (dk_at dksX0_orders_2 3 rfl rfl)
theorem dX0_orders_52 : decode cX0_orders 52 = .ok (.ireturn, 1) := dk_172 (dk_at dksX0_orders_2 4 rfl rfl)
theorem dX0_orders_53 : decode cX0_orders 53 = .ok (.astore 4, 2) := dk_58 4 (dk_at dksX0_orders_2 5 rfl rfl)
theorem dX0_orders_55 : decode cX0_orders 55 = .ok (.aload_n 0, 1) := dk_42 (dk_at dksX0_orders_2 7 rfl rfl)
theorem dX0_orders_56 : decode cX0_orders 56 = .ok (.iconst 0, 1) := dk_3 (dk_at dksX0_orders_2 8 rfl rfl)
theorem dX0_orders_57 : decode cX0_orders 57 = .ok (.putfield 148, 3) := dk_181 0 148 (dk_at dksX0_orders_2 9 rfl rfl)
theorem dX0_orders_60 : decode cX0_orders 60 = .ok (.aload 4, 2) := dk_25 4 (dk_at dksX0_orders_2 12 rfl rfl)
theorem dX0_orders_62 : decode cX0_orders 62 = .ok (.athrow, 1) := dk_191 (dk_at dksX0_orders_2 14 rfl rfl)
theorem dX0_orders_63 : decode cX0_orders 63 = .ok (.aload_n 0, 1) := dk_42 (dk_at dksX0_orders_2 15 rfl rfl)
theorem dX0_orders_64 : decode cX0_orders 64 = .ok (.getfield 33, 3) := dk_180 0 33 (dk_at dksX0_orders_2 16 rfl rfl)
theorem dX0_orders_67 : decode cX0_orders 67 = .ok (.aload_n 0, 1) := dk_42 (dk_at dksX0_orders_2 19 rfl rfl)
theorem dX0_orders_68 : decode cX0_orders 68 = .ok (.invokevirtual 135, 3) := dk_182 0 135 (dk_at dksX0_orders_2 20 rfl rfl)
theorem dX0_orders_71 : decode cX0_orders 71 = .ok (.invokevirtual 334, 3) := dk_182 1 78 (dk_at dksX0_orders_3 0 rfl rfl)
theorem dX0_orders_74 : decode cX0_orders 74 = .ok (.pop, 1) := dk_87 (dk_at dksX0_orders_3 3 rfl rfl)
theorem dX0_orders_75 : decode cX0_orders 75 = .ok (.aload_n 0, 1) := dk_42 (dk_at dksX0_orders_3 4 rfl rfl)
theorem dX0_orders_76 : decode cX0_orders 76 = .ok (.getfield 27, 3) := dk_180 0 27 (dk_at dksX0_orders_3 5 rfl rfl)
theorem dX0_orders_79 : decode cX0_orders 79 = .ok (.aload_n 0, 1) := dk_42 (dk_at dksX0_orders_3 8 rfl rfl)
theorem dX0_orders_80 : decode cX0_orders 80 = .ok (.getfield 23, 3) := dk_180 0 23 (dk_at dksX0_orders_3 9 rfl rfl)
theorem dX0_orders_83 : decode cX0_orders 83 = .ok (.invokevirtual 435, 3) := dk_182 1 179 (dk_at dksX0_orders_3 12 rfl rfl)
theorem dX0_orders_86 : decode cX0_orders 86 = .ok (.aload_n 0, 1) := dk_42 (dk_at dksX0_orders_3 15 rfl rfl)
theorem dX0_orders_87 : decode cX0_orders 87 = .ok (.iconst 0, 1) := dk_3 (dk_at dksX0_orders_3 16 rfl rfl)
theorem dX0_orders_88 : decode cX0_orders 88 = .ok (.putfield 426, 3) := dk_181 1 170 (dk_at dksX0_orders_3 17 rfl rfl)
theorem dX0_orders_91 : decode cX0_orders 91 = .ok (.aload_n 0, 1) := dk_42 (dk_at dksX0_orders_3 20 rfl rfl)
theorem dX0_orders_92 : decode cX0_orders 92 = .ok (.iconst (-1), 1) := dk_2 (dk_at dksX0_orders_3 21 rfl rfl)
theorem dX0_orders_93 : decode cX0_orders 93 = .ok (.putfield 438, 3) := dk_181 1 182 (dk_at dksX0_orders_4 0 rfl rfl)
theorem dX0_orders_96 : decode cX0_orders 96 = .ok (.aload_n 0, 1) := dk_42 (dk_at dksX0_orders_4 3 rfl rfl)
theorem dX0_orders_97 : decode cX0_orders 97 = .ok (.aload_n 1, 1) := dk_43 (dk_at dksX0_orders_4 4 rfl rfl)
theorem dX0_orders_98 : decode cX0_orders 98 = .ok (.invokevirtual 441, 3) := dk_182 1 185 (dk_at dksX0_orders_4 5 rfl rfl)
theorem dX0_orders_101 : decode cX0_orders 101 = .ok (.istore_n 2, 1) := dk_61 (dk_at dksX0_orders_4 8 rfl rfl)
theorem dX0_orders_102 : decode cX0_orders 102 = .ok (.iload_n 2, 1) := dk_28 (dk_at dksX0_orders_4 9 rfl rfl)
theorem dX0_orders_103 : decode cX0_orders 103 = .ok (.ifCond .ge 26, 3) := dk_156 0 26 (dk_at dksX0_orders_4 10 rfl rfl)
theorem dX0_orders_106 : decode cX0_orders 106 = .ok (.aload_n 0, 1) := dk_42 (dk_at dksX0_orders_4 13 rfl rfl)
theorem dX0_orders_107 : decode cX0_orders 107 = .ok (.invokevirtual 135, 3) := dk_182 0 135 (dk_at dksX0_orders_4 14 rfl rfl)
theorem dX0_orders_110 : decode cX0_orders 110 = .ok (.aload_n 0, 1) := dk_42 (dk_at dksX0_orders_4 17 rfl rfl)
theorem dX0_orders_111 : decode cX0_orders 111 = .ok (.getfield 33, 3) := dk_180 0 33 (dk_at dksX0_orders_4 18 rfl rfl)
theorem dX0_orders_114 : decode cX0_orders 114 = .ok (.invokevirtual 334, 3) := dk_182 1 78 (dk_at dksX0_orders_4 21 rfl rfl)
theorem dX0_orders_117 : decode cX0_orders 117 = .ok (.pop, 1) := dk_87 (dk_at dksX0_orders_5 0 rfl rfl)
theorem dX0_orders_118 : decode cX0_orders 118 = .ok (.aload_n 0, 1) := dk_42 (dk_at dksX0_orders_5 1 rfl rfl)
theorem dX0_orders_119 : decode cX0_orders 119 = .ok (.getfield 23, 3) := dk_180 0 23 (dk_at dksX0_orders_5 2 rfl rfl)
theorem dX0_orders_122 : decode cX0_orders 122 = .ok (.aload_n 0, 1) := dk_42 (dk_at dksX0_orders_5 5 rfl rfl)
theorem dX0_orders_123 : decode cX0_orders 123 = .ok (.getfield 27, 3) := dk_180 0 27 (dk_at dksX0_orders_5 6 rfl rfl)
theorem dX0_orders_126 : decode cX0_orders 126 = .ok (.invokevirtual 435, 3) := dk_182 1 179 (dk_at dksX0_orders_5 9 rfl rfl)
theorem dX0_orders_129 : decode cX0_orders 129 = .ok (.aload_n 0, 1) := dk_42 (dk_at dksX0_orders_5 12 rfl rfl)
theorem dX0_orders_130 : decode cX0_orders 130 = .ok (.iload_n 2, 1) := dk_28 (dk_at dksX0_orders_5 13 rfl rfl)
theorem dX0_orders_131 : decode cX0_orders 131 = .ok (.invokevirtual 112, 3) := dk_182 0 112 (dk_at dksX0_orders_5 14 rfl rfl)
theorem dX0_orders_134 : decode cX0_orders 134 = .ok (.ireturn, 1) := dk_172 (dk_at dksX0_orders_5 17 rfl rfl)
abbrev cX0_runAll : ByteArray := prog_1_method_81_code
def yX0_runAll : MethodName := ⟨RX0, "runAll", "([LLeekReadings$Act;)I"⟩
def dkwX0_runAll_2 : List UInt8 := [132, 2, 1, 167, 255, 209, 42, 180, 1, 170, 172]
abbrev dktX0_runAll_2 : List UInt8 := dkwX0_runAll_2 ++ []
def dkwX0_runAll_1 : List UInt8 := [182, 1, 167, 154, 0, 6, 167, 0, 11, 42, 28, 181, 0, 69, 16, 253, 172, 132, 3, 1, 167, 255, 223]
abbrev dktX0_runAll_1 : List UInt8 := dkwX0_runAll_1 ++ dktX0_runAll_2
def dkwX0_runAll_0 : List UInt8 := [3, 61, 28, 43, 190, 162, 0, 47, 3, 62, 29, 43, 28, 50, 180, 1, 162, 162, 0, 29, 43, 28, 50]
abbrev dktX0_runAll_0 : List UInt8 := dkwX0_runAll_0 ++ dktX0_runAll_1
theorem dksX0_runAll_0 : cX0_runAll.data.toList.drop 0 = dktX0_runAll_0 := by decide +kernel
theorem dksX0_runAll_1 : cX0_runAll.data.toList.drop 23 = dktX0_runAll_1 := dk_seg dksX0_runAll_0 23 rfl rfl
theorem dksX0_runAll_2 : cX0_runAll.data.toList.drop 46 = dktX0_runAll_2 := dk_seg dksX0_runAll_1 23 rfl rfl
theorem dX0_runAll_0 : decode cX0_runAll 0 = .ok (.iconst 0, 1) := dk_3 (dk_at dksX0_runAll_0 0 rfl rfl)
theorem dX0_runAll_1 : decode cX0_runAll 1 = .ok (.istore_n 2, 1) := dk_61 (dk_at dksX0_runAll_0 1 rfl rfl)
theorem dX0_runAll_2 : decode cX0_runAll 2 = .ok (.iload_n 2, 1) := dk_28 (dk_at dksX0_runAll_0 2 rfl rfl)
theorem dX0_runAll_3 : decode cX0_runAll 3 = .ok (.aload_n 1, 1) := dk_43 (dk_at dksX0_runAll_0 3 rfl rfl)
theorem dX0_runAll_4 : decode cX0_runAll 4 = .ok (.arraylength, 1) := dk_190 (dk_at dksX0_runAll_0 4 rfl rfl)
theorem dX0_runAll_5 : decode cX0_runAll 5 = .ok (.if_icmp .ge 47, 3) := dk_162 0 47 (dk_at dksX0_runAll_0 5 rfl rfl)
theorem dX0_runAll_8 : decode cX0_runAll 8 = .ok (.iconst 0, 1) := dk_3 (dk_at dksX0_runAll_0 8 rfl rfl)
theorem dX0_runAll_9 : decode cX0_runAll 9 = .ok (.istore_n 3, 1) := dk_62 (dk_at dksX0_runAll_0 9 rfl rfl)
theorem dX0_runAll_10 : decode cX0_runAll 10 = .ok (.iload_n 3, 1) := dk_29 (dk_at dksX0_runAll_0 10 rfl rfl)
theorem dX0_runAll_11 : decode cX0_runAll 11 = .ok (.aload_n 1, 1) := dk_43 (dk_at dksX0_runAll_0 11 rfl rfl)
theorem dX0_runAll_12 : decode cX0_runAll 12 = .ok (.iload_n 2, 1) := dk_28 (dk_at dksX0_runAll_0 12 rfl rfl)
theorem dX0_runAll_13 : decode cX0_runAll 13 = .ok (.aaload, 1) := dk_50 (dk_at dksX0_runAll_0 13 rfl rfl)
theorem dX0_runAll_14 : decode cX0_runAll 14 = .ok (.getfield 418, 3) := dk_180 1 162 (dk_at dksX0_runAll_0 14 rfl rfl)
theorem dX0_runAll_17 : decode cX0_runAll 17 = .ok (.if_icmp .ge 29, 3) := dk_162 0 29 (dk_at dksX0_runAll_0 17 rfl rfl)
theorem dX0_runAll_20 : decode cX0_runAll 20 = .ok (.aload_n 1, 1) := dk_43 (dk_at dksX0_runAll_0 20 rfl rfl)
theorem dX0_runAll_21 : decode cX0_runAll 21 = .ok (.iload_n 2, 1) := dk_28 (dk_at dksX0_runAll_0 21 rfl rfl)
theorem dX0_runAll_22 : decode cX0_runAll 22 = .ok (.aaload, 1) := dk_50 (dk_at dksX0_runAll_0 22 rfl rfl)
theorem dX0_runAll_23 : decode cX0_runAll 23 = .ok (.invokevirtual 423, 3) := dk_182 1 167 (dk_at dksX0_runAll_1 0 rfl rfl)
theorem dX0_runAll_26 : decode cX0_runAll 26 = .ok (.ifCond .ne 6, 3) := dk_154 0 6 (dk_at dksX0_runAll_1 3 rfl rfl)
theorem dX0_runAll_29 : decode cX0_runAll 29 = .ok (.goto 11, 3) := dk_167 0 11 (dk_at dksX0_runAll_1 6 rfl rfl)
theorem dX0_runAll_32 : decode cX0_runAll 32 = .ok (.aload_n 0, 1) := dk_42 (dk_at dksX0_runAll_1 9 rfl rfl)
theorem dX0_runAll_33 : decode cX0_runAll 33 = .ok (.iload_n 2, 1) := dk_28 (dk_at dksX0_runAll_1 10 rfl rfl)
theorem dX0_runAll_34 : decode cX0_runAll 34 = .ok (.putfield 69, 3) := dk_181 0 69 (dk_at dksX0_runAll_1 11 rfl rfl)
theorem dX0_runAll_37 : decode cX0_runAll 37 = .ok (.bipush (-3), 2) := dk_16 253 (dk_at dksX0_runAll_1 14 rfl rfl)
theorem dX0_runAll_39 : decode cX0_runAll 39 = .ok (.ireturn, 1) := dk_172 (dk_at dksX0_runAll_1 16 rfl rfl)
theorem dX0_runAll_40 : decode cX0_runAll 40 = .ok (.iinc 3 1, 3) := dk_132 3 1 (dk_at dksX0_runAll_1 17 rfl rfl)
theorem dX0_runAll_43 : decode cX0_runAll 43 = .ok (.goto (-33), 3) := dk_167 255 223 (dk_at dksX0_runAll_1 20 rfl rfl)
theorem dX0_runAll_46 : decode cX0_runAll 46 = .ok (.iinc 2 1, 3) := dk_132 2 1 (dk_at dksX0_runAll_2 0 rfl rfl)
theorem dX0_runAll_49 : decode cX0_runAll 49 = .ok (.goto (-47), 3) := dk_167 255 209 (dk_at dksX0_runAll_2 3 rfl rfl)
theorem dX0_runAll_52 : decode cX0_runAll 52 = .ok (.aload_n 0, 1) := dk_42 (dk_at dksX0_runAll_2 6 rfl rfl)
theorem dX0_runAll_53 : decode cX0_runAll 53 = .ok (.getfield 426, 3) := dk_180 1 170 (dk_at dksX0_runAll_2 7 rfl rfl)
theorem dX0_runAll_56 : decode cX0_runAll 56 = .ok (.ireturn, 1) := dk_172 (dk_at dksX0_runAll_2 10 rfl rfl)
abbrev cX0_stopped : ByteArray := prog_1_method_83_code
def yX0_stopped : MethodName := ⟨RX0, "stopped", "()I"⟩
theorem dX0_stopped_0 : decode cX0_stopped 0 = .ok (.aload_n 0, 1) := by decide +kernel
theorem dX0_stopped_1 : decode cX0_stopped 1 = .ok (.getfield 69, 3) := by decide +kernel
theorem dX0_stopped_4 : decode cX0_stopped 4 = .ok (.ireturn, 1) := by decide +kernel
abbrev cX0_shows : ByteArray := prog_1_method_84_code
def yX0_shows : MethodName := ⟨RX0, "shows", "(II)I"⟩
def dkwX0_shows_11 : List UInt8 := [181, 0, 97, 42, 182, 0, 135, 42, 180, 0, 37, 182, 1, 78, 87, 42, 21, 4, 182, 0, 112, 172]
abbrev dktX0_shows_11 : List UInt8 := dkwX0_shows_11 ++ []
def dkwX0_shows_10 : List UInt8 := [180, 0, 91, 42, 182, 0, 135, 182, 1, 78, 87, 42, 42, 182, 0, 125, 181, 0, 94, 42, 42, 182, 0, 132]
abbrev dktX0_shows_10 : List UInt8 := dkwX0_shows_10 ++ dktX0_shows_11
def dkwX0_shows_9 : List UInt8 := [162, 0, 8, 42, 182, 1, 68, 87, 132, 4, 1, 167, 255, 108, 42, 182, 0, 135, 182, 1, 198, 54, 4, 42]
abbrev dktX0_shows_9 : List UInt8 := dkwX0_shows_9 ++ dktX0_shows_10
def dkwX0_shows_8 : List UInt8 := [180, 0, 138, 4, 21, 5, 120, 2, 130, 126, 181, 0, 138, 42, 182, 0, 135, 180, 0, 204, 17, 3, 231]
abbrev dktX0_shows_8 : List UInt8 := dkwX0_shows_8 ++ dktX0_shows_9
def dkwX0_shows_7 : List UInt8 := [21, 6, 3, 79, 21, 7, 6, 160, 0, 30, 42, 21, 5, 182, 1, 56, 153, 0, 21, 42, 182, 0, 135, 89]
abbrev dktX0_shows_7 : List UInt8 := dkwX0_shows_7 ++ dktX0_shows_8
def dkwX0_shows_6 : List UInt8 := [153, 0, 10, 42, 21, 5, 182, 1, 50, 87, 21, 7, 5, 160, 0, 14, 42, 182, 0, 135, 180, 0, 188]
abbrev dktX0_shows_6 : List UInt8 := dkwX0_shows_6 ++ dktX0_shows_7
def dkwX0_shows_5 : List UInt8 := [54, 7, 21, 7, 5, 162, 0, 28, 42, 21, 5, 182, 1, 40, 153, 0, 19, 42, 21, 5, 182, 1, 43]
abbrev dktX0_shows_5 : List UInt8 := dkwX0_shows_5 ++ dktX0_shows_6
def dkwX0_shows_4 : List UInt8 := [42, 182, 0, 125, 182, 1, 195, 54, 5, 45, 42, 182, 0, 132, 182, 1, 195, 54, 6, 45, 7, 182, 1, 195]
abbrev dktX0_shows_4 : List UInt8 := dkwX0_shows_4 ++ dktX0_shows_5
def dkwX0_shows_3 : List UInt8 := [87, 3, 54, 4, 21, 4, 28, 162, 0, 148, 42, 182, 0, 135, 180, 0, 204, 17, 3, 231, 162, 0, 135, 45]
abbrev dktX0_shows_3 : List UInt8 := dkwX0_shows_3 ++ dktX0_shows_4
def dkwX0_shows_2 : List UInt8 := [182, 0, 112, 172, 187, 1, 191, 89, 27, 183, 1, 193, 78, 42, 180, 0, 37, 42, 182, 0, 135, 182, 1, 78]
abbrev dktX0_shows_2 : List UInt8 := dkwX0_shows_2 ++ dktX0_shows_3
def dkwX0_shows_1 : List UInt8 := [42, 2, 182, 0, 112, 172, 42, 182, 0, 125, 153, 0, 10, 42, 182, 0, 132, 154, 0, 10, 42, 16, 253]
abbrev dktX0_shows_1 : List UInt8 := dkwX0_shows_1 ++ dktX0_shows_2
def dkwX0_shows_0 : List UInt8 := [27, 133, 9, 20, 1, 189, 184, 0, 128, 153, 0, 15, 28, 133, 10, 20, 1, 125, 184, 0, 128, 154, 0, 9]
abbrev dktX0_shows_0 : List UInt8 := dkwX0_shows_0 ++ dktX0_shows_1
theorem dksX0_shows_0 : cX0_shows.data.toList.drop 0 = dktX0_shows_0 := by decide +kernel
theorem dksX0_shows_1 : cX0_shows.data.toList.drop 24 = dktX0_shows_1 := dk_seg dksX0_shows_0 24 rfl rfl
theorem dksX0_shows_2 : cX0_shows.data.toList.drop 47 = dktX0_shows_2 := dk_seg dksX0_shows_1 23 rfl rfl
theorem dksX0_shows_3 : cX0_shows.data.toList.drop 71 = dktX0_shows_3 := dk_seg dksX0_shows_2 24 rfl rfl
theorem dksX0_shows_4 : cX0_shows.data.toList.drop 95 = dktX0_shows_4 := dk_seg dksX0_shows_3 24 rfl rfl
theorem dksX0_shows_5 : cX0_shows.data.toList.drop 119 = dktX0_shows_5 := dk_seg dksX0_shows_4 24 rfl rfl
theorem dksX0_shows_6 : cX0_shows.data.toList.drop 142 = dktX0_shows_6 := dk_seg dksX0_shows_5 23 rfl rfl
theorem dksX0_shows_7 : cX0_shows.data.toList.drop 165 = dktX0_shows_7 := dk_seg dksX0_shows_6 23 rfl rfl
theorem dksX0_shows_8 : cX0_shows.data.toList.drop 189 = dktX0_shows_8 := dk_seg dksX0_shows_7 24 rfl rfl
theorem dksX0_shows_9 : cX0_shows.data.toList.drop 212 = dktX0_shows_9 := dk_seg dksX0_shows_8 23 rfl rfl
theorem dksX0_shows_10 : cX0_shows.data.toList.drop 236 = dktX0_shows_10 := dk_seg dksX0_shows_9 24 rfl rfl
theorem dksX0_shows_11 : cX0_shows.data.toList.drop 260 = dktX0_shows_11 := dk_seg dksX0_shows_10 24 rfl rfl
theorem dX0_shows_0 : decode cX0_shows 0 = .ok (.iload_n 1, 1) := dk_27 (dk_at dksX0_shows_0 0 rfl rfl)
theorem dX0_shows_1 : decode cX0_shows 1 = .ok (.i2l, 1) := dk_133 (dk_at dksX0_shows_0 1 rfl rfl)
theorem dX0_shows_2 : decode cX0_shows 2 = .ok (.lconst 0, 1) := dk_9 (dk_at dksX0_shows_0 2 rfl rfl)
theorem dX0_shows_3 : decode cX0_shows 3 = .ok (.ldc2_w 445, 3) := dk_20 1 189 (dk_at dksX0_shows_0 3 rfl rfl)
theorem dX0_shows_6 : decode cX0_shows 6 = .ok (.invokestatic 128, 3) := dk_184 0 128 (dk_at dksX0_shows_0 6 rfl rfl)
theorem dX0_shows_9 : decode cX0_shows 9 = .ok (.ifCond .eq 15, 3) := dk_153 0 15 (dk_at dksX0_shows_0 9 rfl rfl)
theorem dX0_shows_12 : decode cX0_shows 12 = .ok (.iload_n 2, 1) := dk_28 (dk_at dksX0_shows_0 12 rfl rfl)
theorem dX0_shows_13 : decode cX0_shows 13 = .ok (.i2l, 1) := dk_133 (dk_at dksX0_shows_0 13 rfl rfl)
theorem dX0_shows_14 : decode cX0_shows 14 = .ok (.lconst 1, 1) := dk_10 (dk_at dksX0_shows_0 14 rfl rfl)
theorem dX0_shows_15 : decode cX0_shows 15 = .ok (.ldc2_w 381, 3) := dk_20 1 125 (dk_at dksX0_shows_0 15 rfl rfl)
theorem dX0_shows_18 : decode cX0_shows 18 = .ok (.invokestatic 128, 3) := dk_184 0 128 (dk_at dksX0_shows_0 18 rfl rfl)
theorem dX0_shows_21 : decode cX0_shows 21 = .ok (.ifCond .ne 9, 3) := dk_154 0 9 (dk_at dksX0_shows_0 21 rfl rfl)
theorem dX0_shows_24 : decode cX0_shows 24 = .ok (.aload_n 0, 1) := dk_42 (dk_at dksX0_shows_1 0 rfl rfl)
theorem dX0_shows_25 : decode cX0_shows 25 = .ok (.iconst (-1), 1) := dk_2 (dk_at dksX0_shows_1 1 rfl rfl)
theorem dX0_shows_26 : decode cX0_shows 26 = .ok (.invokevirtual 112, 3) := dk_182 0 112 (dk_at dksX0_shows_1 2 rfl rfl)
theorem dX0_shows_29 : decode cX0_shows 29 = .ok (.ireturn, 1) := dk_172 (dk_at dksX0_shows_1 5 rfl rfl)
theorem dX0_shows_30 : decode cX0_shows 30 = .ok (.aload_n 0, 1) := dk_42 (dk_at dksX0_shows_1 6 rfl rfl)
theorem dX0_shows_31 : decode cX0_shows 31 = .ok (.invokevirtual 125, 3) := dk_182 0 125 (dk_at dksX0_shows_1 7 rfl rfl)
theorem dX0_shows_34 : decode cX0_shows 34 = .ok (.ifCond .eq 10, 3) := dk_153 0 10 (dk_at dksX0_shows_1 10 rfl rfl)
theorem dX0_shows_37 : decode cX0_shows 37 = .ok (.aload_n 0, 1) := dk_42 (dk_at dksX0_shows_1 13 rfl rfl)
theorem dX0_shows_38 : decode cX0_shows 38 = .ok (.invokevirtual 132, 3) := dk_182 0 132 (dk_at dksX0_shows_1 14 rfl rfl)
theorem dX0_shows_41 : decode cX0_shows 41 = .ok (.ifCond .ne 10, 3) := dk_154 0 10 (dk_at dksX0_shows_1 17 rfl rfl)
theorem dX0_shows_44 : decode cX0_shows 44 = .ok (.aload_n 0, 1) := dk_42 (dk_at dksX0_shows_1 20 rfl rfl)
theorem dX0_shows_45 : decode cX0_shows 45 = .ok (.bipush (-3), 2) := dk_16 253 (dk_at dksX0_shows_1 21 rfl rfl)
theorem dX0_shows_47 : decode cX0_shows 47 = .ok (.invokevirtual 112, 3) := dk_182 0 112 (dk_at dksX0_shows_2 0 rfl rfl)
theorem dX0_shows_50 : decode cX0_shows 50 = .ok (.ireturn, 1) := dk_172 (dk_at dksX0_shows_2 3 rfl rfl)
theorem dX0_shows_51 : decode cX0_shows 51 = .ok (.new 447, 3) := dk_187 1 191 (dk_at dksX0_shows_2 4 rfl rfl)
theorem dX0_shows_54 : decode cX0_shows 54 = .ok (.dup, 1) := dk_89 (dk_at dksX0_shows_2 7 rfl rfl)
theorem dX0_shows_55 : decode cX0_shows 55 = .ok (.iload_n 1, 1) := dk_27 (dk_at dksX0_shows_2 8 rfl rfl)
theorem dX0_shows_56 : decode cX0_shows 56 = .ok (.invokespecial 449, 3) := dk_183 1 193 (dk_at dksX0_shows_2 9 rfl rfl)
theorem dX0_shows_59 : decode cX0_shows 59 = .ok (.astore_n 3, 1) := dk_78 (dk_at dksX0_shows_2 12 rfl rfl)
theorem dX0_shows_60 : decode cX0_shows 60 = .ok (.aload_n 0, 1) := dk_42 (dk_at dksX0_shows_2 13 rfl rfl)
theorem dX0_shows_61 : decode cX0_shows 61 = .ok (.getfield 37, 3) := dk_180 0 37 (dk_at dksX0_shows_2 14 rfl rfl)
theorem dX0_shows_64 : decode cX0_shows 64 = .ok (.aload_n 0, 1) := dk_42 (dk_at dksX0_shows_2 17 rfl rfl)
theorem dX0_shows_65 : decode cX0_shows 65 = .ok (.invokevirtual 135, 3) := dk_182 0 135 (dk_at dksX0_shows_2 18 rfl rfl)
theorem dX0_shows_68 : decode cX0_shows 68 = .ok (.invokevirtual 334, 3) := dk_182 1 78 (dk_at dksX0_shows_2 21 rfl rfl)
theorem dX0_shows_71 : decode cX0_shows 71 = .ok (.pop, 1) := dk_87 (dk_at dksX0_shows_3 0 rfl rfl)
theorem dX0_shows_72 : decode cX0_shows 72 = .ok (.iconst 0, 1) := dk_3 (dk_at dksX0_shows_3 1 rfl rfl)
theorem dX0_shows_73 : decode cX0_shows 73 = .ok (.istore 4, 2) := dk_54 4 (dk_at dksX0_shows_3 2 rfl rfl)
theorem dX0_shows_75 : decode cX0_shows 75 = .ok (.iload 4, 2) := dk_21 4 (dk_at dksX0_shows_3 4 rfl rfl)
theorem dX0_shows_77 : decode cX0_shows 77 = .ok (.iload_n 2, 1) := dk_28 (dk_at dksX0_shows_3 6 rfl rfl)
theorem dX0_shows_78 : decode cX0_shows 78 = .ok (.if_icmp .ge 148, 3) := dk_162 0 148 (dk_at dksX0_shows_3 7 rfl rfl)
theorem dX0_shows_81 : decode cX0_shows 81 = .ok (.aload_n 0, 1) := dk_42 (dk_at dksX0_shows_3 10 rfl rfl)
theorem dX0_shows_82 : decode cX0_shows 82 = .ok (.invokevirtual 135, 3) := dk_182 0 135 (dk_at dksX0_shows_3 11 rfl rfl)
theorem dX0_shows_85 : decode cX0_shows 85 = .ok (.getfield 204, 3) := dk_180 0 204 (dk_at dksX0_shows_3 14 rfl rfl)
theorem dX0_shows_88 : decode cX0_shows 88 = .ok (.sipush 999, 3) := dk_17 3 231 (dk_at dksX0_shows_3 17 rfl rfl)
theorem dX0_shows_91 : decode cX0_shows 91 = .ok (.if_icmp .ge 135, 3) := dk_162 0 135 (dk_at dksX0_shows_3 20 rfl rfl)
theorem dX0_shows_94 : decode cX0_shows 94 = .ok (.aload_n 3, 1) := dk_45 (dk_at dksX0_shows_3 23 rfl rfl)
theorem dX0_shows_95 : decode cX0_shows 95 = .ok (.aload_n 0, 1) := dk_42 (dk_at dksX0_shows_4 0 rfl rfl)
theorem dX0_shows_96 : decode cX0_shows 96 = .ok (.invokevirtual 125, 3) := dk_182 0 125 (dk_at dksX0_shows_4 1 rfl rfl)
theorem dX0_shows_99 : decode cX0_shows 99 = .ok (.invokevirtual 451, 3) := dk_182 1 195 (dk_at dksX0_shows_4 4 rfl rfl)
theorem dX0_shows_102 : decode cX0_shows 102 = .ok (.istore 5, 2) := dk_54 5 (dk_at dksX0_shows_4 7 rfl rfl)
theorem dX0_shows_104 : decode cX0_shows 104 = .ok (.aload_n 3, 1) := dk_45 (dk_at dksX0_shows_4 9 rfl rfl)
theorem dX0_shows_105 : decode cX0_shows 105 = .ok (.aload_n 0, 1) := dk_42 (dk_at dksX0_shows_4 10 rfl rfl)
theorem dX0_shows_106 : decode cX0_shows 106 = .ok (.invokevirtual 132, 3) := dk_182 0 132 (dk_at dksX0_shows_4 11 rfl rfl)
theorem dX0_shows_109 : decode cX0_shows 109 = .ok (.invokevirtual 451, 3) := dk_182 1 195 (dk_at dksX0_shows_4 14 rfl rfl)
theorem dX0_shows_112 : decode cX0_shows 112 = .ok (.istore 6, 2) := dk_54 6 (dk_at dksX0_shows_4 17 rfl rfl)
theorem dX0_shows_114 : decode cX0_shows 114 = .ok (.aload_n 3, 1) := dk_45 (dk_at dksX0_shows_4 19 rfl rfl)
theorem dX0_shows_115 : decode cX0_shows 115 = .ok (.iconst 4, 1) := dk_7 (dk_at dksX0_shows_4 20 rfl rfl)
theorem dX0_shows_116 : decode cX0_shows 116 = .ok (.invokevirtual 451, 3) := dk_182 1 195 (dk_at dksX0_shows_4 21 rfl rfl)
theorem dX0_shows_119 : decode cX0_shows 119 = .ok (.istore 7, 2) := dk_54 7 (dk_at dksX0_shows_5 0 rfl rfl)
theorem dX0_shows_121 : decode cX0_shows 121 = .ok (.iload 7, 2) := dk_21 7 (dk_at dksX0_shows_5 2 rfl rfl)
theorem dX0_shows_123 : decode cX0_shows 123 = .ok (.iconst 2, 1) := dk_5 (dk_at dksX0_shows_5 4 rfl rfl)
theorem dX0_shows_124 : decode cX0_shows 124 = .ok (.if_icmp .ge 28, 3) := dk_162 0 28 (dk_at dksX0_shows_5 5 rfl rfl)
theorem dX0_shows_127 : decode cX0_shows 127 = .ok (.aload_n 0, 1) := dk_42 (dk_at dksX0_shows_5 8 rfl rfl)
theorem dX0_shows_128 : decode cX0_shows 128 = .ok (.iload 5, 2) := dk_21 5 (dk_at dksX0_shows_5 9 rfl rfl)
theorem dX0_shows_130 : decode cX0_shows 130 = .ok (.invokevirtual 296, 3) := dk_182 1 40 (dk_at dksX0_shows_5 11 rfl rfl)
theorem dX0_shows_133 : decode cX0_shows 133 = .ok (.ifCond .eq 19, 3) := dk_153 0 19 (dk_at dksX0_shows_5 14 rfl rfl)
theorem dX0_shows_136 : decode cX0_shows 136 = .ok (.aload_n 0, 1) := dk_42 (dk_at dksX0_shows_5 17 rfl rfl)
theorem dX0_shows_137 : decode cX0_shows 137 = .ok (.iload 5, 2) := dk_21 5 (dk_at dksX0_shows_5 18 rfl rfl)
theorem dX0_shows_139 : decode cX0_shows 139 = .ok (.invokevirtual 299, 3) := dk_182 1 43 (dk_at dksX0_shows_5 20 rfl rfl)
theorem dX0_shows_142 : decode cX0_shows 142 = .ok (.ifCond .eq 10, 3) := dk_153 0 10 (dk_at dksX0_shows_6 0 rfl rfl)
theorem dX0_shows_145 : decode cX0_shows 145 = .ok (.aload_n 0, 1) := dk_42 (dk_at dksX0_shows_6 3 rfl rfl)
theorem dX0_shows_146 : decode cX0_shows 146 = .ok (.iload 5, 2) := dk_21 5 (dk_at dksX0_shows_6 4 rfl rfl)
theorem dX0_shows_148 : decode cX0_shows 148 = .ok (.invokevirtual 306, 3) := dk_182 1 50 (dk_at dksX0_shows_6 6 rfl rfl)
theorem dX0_shows_151 : decode cX0_shows 151 = .ok (.pop, 1) := dk_87 (dk_at dksX0_shows_6 9 rfl rfl)
theorem dX0_shows_152 : decode cX0_shows 152 = .ok (.iload 7, 2) := dk_21 7 (dk_at dksX0_shows_6 10 rfl rfl)
theorem dX0_shows_154 : decode cX0_shows 154 = .ok (.iconst 2, 1) := dk_5 (dk_at dksX0_shows_6 12 rfl rfl)
theorem dX0_shows_155 : decode cX0_shows 155 = .ok (.if_icmp .ne 14, 3) := dk_160 0 14 (dk_at dksX0_shows_6 13 rfl rfl)
theorem dX0_shows_158 : decode cX0_shows 158 = .ok (.aload_n 0, 1) := dk_42 (dk_at dksX0_shows_6 16 rfl rfl)
theorem dX0_shows_159 : decode cX0_shows 159 = .ok (.invokevirtual 135, 3) := dk_182 0 135 (dk_at dksX0_shows_6 17 rfl rfl)
theorem dX0_shows_162 : decode cX0_shows 162 = .ok (.getfield 188, 3) := dk_180 0 188 (dk_at dksX0_shows_6 20 rfl rfl)
theorem dX0_shows_165 : decode cX0_shows 165 = .ok (.iload 6, 2) := dk_21 6 (dk_at dksX0_shows_7 0 rfl rfl)
theorem dX0_shows_167 : decode cX0_shows 167 = .ok (.iconst 0, 1) := dk_3 (dk_at dksX0_shows_7 2 rfl rfl)
theorem dX0_shows_168 : decode cX0_shows 168 = .ok (.iastore, 1) := dk_79 (dk_at dksX0_shows_7 3 rfl rfl)
theorem dX0_shows_169 : decode cX0_shows 169 = .ok (.iload 7, 2) := dk_21 7 (dk_at dksX0_shows_7 4 rfl rfl)
theorem dX0_shows_171 : decode cX0_shows 171 = .ok (.iconst 3, 1) := dk_6 (dk_at dksX0_shows_7 6 rfl rfl)
theorem dX0_shows_172 : decode cX0_shows 172 = .ok (.if_icmp .ne 30, 3) := dk_160 0 30 (dk_at dksX0_shows_7 7 rfl rfl)
theorem dX0_shows_175 : decode cX0_shows 175 = .ok (.aload_n 0, 1) := dk_42 (dk_at dksX0_shows_7 10 rfl rfl)
theorem dX0_shows_176 : decode cX0_shows 176 = .ok (.iload 5, 2) := dk_21 5 (dk_at dksX0_shows_7 11 rfl rfl)
theorem dX0_shows_178 : decode cX0_shows 178 = .ok (.invokevirtual 312, 3) := dk_182 1 56 (dk_at dksX0_shows_7 13 rfl rfl)
theorem dX0_shows_181 : decode cX0_shows 181 = .ok (.ifCond .eq 21, 3) := dk_153 0 21 (dk_at dksX0_shows_7 16 rfl rfl)
theorem dX0_shows_184 : decode cX0_shows 184 = .ok (.aload_n 0, 1) := dk_42 (dk_at dksX0_shows_7 19 rfl rfl)
theorem dX0_shows_185 : decode cX0_shows 185 = .ok (.invokevirtual 135, 3) := dk_182 0 135 (dk_at dksX0_shows_7 20 rfl rfl)
theorem dX0_shows_188 : decode cX0_shows 188 = .ok (.dup, 1) := dk_89 (dk_at dksX0_shows_7 23 rfl rfl)
theorem dX0_shows_189 : decode cX0_shows 189 = .ok (.getfield 138, 3) := dk_180 0 138 (dk_at dksX0_shows_8 0 rfl rfl)
theorem dX0_shows_192 : decode cX0_shows 192 = .ok (.iconst 1, 1) := dk_4 (dk_at dksX0_shows_8 3 rfl rfl)
theorem dX0_shows_193 : decode cX0_shows 193 = .ok (.iload 5, 2) := dk_21 5 (dk_at dksX0_shows_8 4 rfl rfl)
theorem dX0_shows_195 : decode cX0_shows 195 = .ok (.ishl, 1) := dk_120 (dk_at dksX0_shows_8 6 rfl rfl)
theorem dX0_shows_196 : decode cX0_shows 196 = .ok (.iconst (-1), 1) := dk_2 (dk_at dksX0_shows_8 7 rfl rfl)
theorem dX0_shows_197 : decode cX0_shows 197 = .ok (.ixor, 1) := dk_130 (dk_at dksX0_shows_8 8 rfl rfl)
theorem dX0_shows_198 : decode cX0_shows 198 = .ok (.iand, 1) := dk_126 (dk_at dksX0_shows_8 9 rfl rfl)
theorem dX0_shows_199 : decode cX0_shows 199 = .ok (.putfield 138, 3) := dk_181 0 138 (dk_at dksX0_shows_8 10 rfl rfl)
theorem dX0_shows_202 : decode cX0_shows 202 = .ok (.aload_n 0, 1) := dk_42 (dk_at dksX0_shows_8 13 rfl rfl)
theorem dX0_shows_203 : decode cX0_shows 203 = .ok (.invokevirtual 135, 3) := dk_182 0 135 (dk_at dksX0_shows_8 14 rfl rfl)
theorem dX0_shows_206 : decode cX0_shows 206 = .ok (.getfield 204, 3) := dk_180 0 204 (dk_at dksX0_shows_8 17 rfl rfl)
theorem dX0_shows_209 : decode cX0_shows 209 = .ok (.sipush 999, 3) := dk_17 3 231 (dk_at dksX0_shows_8 20 rfl rfl)
theorem dX0_shows_212 : decode cX0_shows 212 = .ok (.if_icmp .ge 8, 3) := dk_162 0 8 (dk_at dksX0_shows_9 0 rfl rfl)
theorem dX0_shows_215 : decode cX0_shows 215 = .ok (.aload_n 0, 1) := dk_42 (dk_at dksX0_shows_9 3 rfl rfl)
theorem dX0_shows_216 : decode cX0_shows 216 = .ok (.invokevirtual 324, 3) := dk_182 1 68 (dk_at dksX0_shows_9 4 rfl rfl)
theorem dX0_shows_219 : decode cX0_shows 219 = .ok (.pop, 1) := dk_87 (dk_at dksX0_shows_9 7 rfl rfl)
theorem dX0_shows_220 : decode cX0_shows 220 = .ok (.iinc 4 1, 3) := dk_132 4 1 (dk_at dksX0_shows_9 8 rfl rfl)
theorem dX0_shows_223 : decode cX0_shows 223 = .ok (.goto (-148), 3) := dk_167 255 108 (dk_at dksX0_shows_9 11 rfl rfl)
theorem dX0_shows_226 : decode cX0_shows 226 = .ok (.aload_n 0, 1) := dk_42 (dk_at dksX0_shows_9 14 rfl rfl)
theorem dX0_shows_227 : decode cX0_shows 227 = .ok (.invokevirtual 135, 3) := dk_182 0 135 (dk_at dksX0_shows_9 15 rfl rfl)
theorem dX0_shows_230 : decode cX0_shows 230 = .ok (.invokevirtual 454, 3) := dk_182 1 198 (dk_at dksX0_shows_9 18 rfl rfl)
theorem dX0_shows_233 : decode cX0_shows 233 = .ok (.istore 4, 2) := dk_54 4 (dk_at dksX0_shows_9 21 rfl rfl)
theorem dX0_shows_235 : decode cX0_shows 235 = .ok (.aload_n 0, 1) := dk_42 (dk_at dksX0_shows_9 23 rfl rfl)
theorem dX0_shows_236 : decode cX0_shows 236 = .ok (.getfield 91, 3) := dk_180 0 91 (dk_at dksX0_shows_10 0 rfl rfl)
theorem dX0_shows_239 : decode cX0_shows 239 = .ok (.aload_n 0, 1) := dk_42 (dk_at dksX0_shows_10 3 rfl rfl)
theorem dX0_shows_240 : decode cX0_shows 240 = .ok (.invokevirtual 135, 3) := dk_182 0 135 (dk_at dksX0_shows_10 4 rfl rfl)
theorem dX0_shows_243 : decode cX0_shows 243 = .ok (.invokevirtual 334, 3) := dk_182 1 78 (dk_at dksX0_shows_10 7 rfl rfl)
theorem dX0_shows_246 : decode cX0_shows 246 = .ok (.pop, 1) := dk_87 (dk_at dksX0_shows_10 10 rfl rfl)
theorem dX0_shows_247 : decode cX0_shows 247 = .ok (.aload_n 0, 1) := dk_42 (dk_at dksX0_shows_10 11 rfl rfl)
theorem dX0_shows_248 : decode cX0_shows 248 = .ok (.aload_n 0, 1) := dk_42 (dk_at dksX0_shows_10 12 rfl rfl)
theorem dX0_shows_249 : decode cX0_shows 249 = .ok (.invokevirtual 125, 3) := dk_182 0 125 (dk_at dksX0_shows_10 13 rfl rfl)
theorem dX0_shows_252 : decode cX0_shows 252 = .ok (.putfield 94, 3) := dk_181 0 94 (dk_at dksX0_shows_10 16 rfl rfl)
theorem dX0_shows_255 : decode cX0_shows 255 = .ok (.aload_n 0, 1) := dk_42 (dk_at dksX0_shows_10 19 rfl rfl)
theorem dX0_shows_256 : decode cX0_shows 256 = .ok (.aload_n 0, 1) := dk_42 (dk_at dksX0_shows_10 20 rfl rfl)
theorem dX0_shows_257 : decode cX0_shows 257 = .ok (.invokevirtual 132, 3) := dk_182 0 132 (dk_at dksX0_shows_10 21 rfl rfl)
theorem dX0_shows_260 : decode cX0_shows 260 = .ok (.putfield 97, 3) := dk_181 0 97 (dk_at dksX0_shows_11 0 rfl rfl)
theorem dX0_shows_263 : decode cX0_shows 263 = .ok (.aload_n 0, 1) := dk_42 (dk_at dksX0_shows_11 3 rfl rfl)
theorem dX0_shows_264 : decode cX0_shows 264 = .ok (.invokevirtual 135, 3) := dk_182 0 135 (dk_at dksX0_shows_11 4 rfl rfl)
theorem dX0_shows_267 : decode cX0_shows 267 = .ok (.aload_n 0, 1) := dk_42 (dk_at dksX0_shows_11 7 rfl rfl)
theorem dX0_shows_268 : decode cX0_shows 268 = .ok (.getfield 37, 3) := dk_180 0 37 (dk_at dksX0_shows_11 8 rfl rfl)
theorem dX0_shows_271 : decode cX0_shows 271 = .ok (.invokevirtual 334, 3) := dk_182 1 78 (dk_at dksX0_shows_11 11 rfl rfl)
theorem dX0_shows_274 : decode cX0_shows 274 = .ok (.pop, 1) := dk_87 (dk_at dksX0_shows_11 14 rfl rfl)
theorem dX0_shows_275 : decode cX0_shows 275 = .ok (.aload_n 0, 1) := dk_42 (dk_at dksX0_shows_11 15 rfl rfl)
theorem dX0_shows_276 : decode cX0_shows 276 = .ok (.iload 4, 2) := dk_21 4 (dk_at dksX0_shows_11 16 rfl rfl)
theorem dX0_shows_278 : decode cX0_shows 278 = .ok (.invokevirtual 112, 3) := dk_182 0 112 (dk_at dksX0_shows_11 18 rfl rfl)
theorem dX0_shows_281 : decode cX0_shows 281 = .ok (.ireturn, 1) := dk_172 (dk_at dksX0_shows_11 21 rfl rfl)
abbrev cX0_drawn : ByteArray := prog_1_method_85_code
def yX0_drawn : MethodName := ⟨RX0, "drawn", "(II)I"⟩
def dkwX0_drawn_2 : List UInt8 := [4, 100, 133, 184, 0, 128, 153, 0, 15, 42, 180, 0, 91, 180, 0, 188, 27, 46, 167, 0, 4, 2, 172]
abbrev dktX0_drawn_2 : List UInt8 := dkwX0_drawn_2 ++ []
def dkwX0_drawn_1 : List UInt8 := [180, 0, 138, 27, 122, 4, 126, 167, 0, 4, 2, 172, 28, 4, 160, 0, 31, 27, 133, 9, 42, 180, 0, 97]
abbrev dktX0_drawn_1 : List UInt8 := dkwX0_drawn_1 ++ dktX0_drawn_2
def dkwX0_drawn_0 : List UInt8 := [28, 154, 0, 35, 27, 133, 9, 42, 180, 0, 94, 4, 100, 133, 184, 0, 128, 153, 0, 17, 42, 180, 0, 91]
abbrev dktX0_drawn_0 : List UInt8 := dkwX0_drawn_0 ++ dktX0_drawn_1
theorem dksX0_drawn_0 : cX0_drawn.data.toList.drop 0 = dktX0_drawn_0 := by decide +kernel
theorem dksX0_drawn_1 : cX0_drawn.data.toList.drop 24 = dktX0_drawn_1 := dk_seg dksX0_drawn_0 24 rfl rfl
theorem dksX0_drawn_2 : cX0_drawn.data.toList.drop 48 = dktX0_drawn_2 := dk_seg dksX0_drawn_1 24 rfl rfl
theorem dX0_drawn_0 : decode cX0_drawn 0 = .ok (.iload_n 2, 1) := dk_28 (dk_at dksX0_drawn_0 0 rfl rfl)
theorem dX0_drawn_1 : decode cX0_drawn 1 = .ok (.ifCond .ne 35, 3) := dk_154 0 35 (dk_at dksX0_drawn_0 1 rfl rfl)
theorem dX0_drawn_4 : decode cX0_drawn 4 = .ok (.iload_n 1, 1) := dk_27 (dk_at dksX0_drawn_0 4 rfl rfl)
theorem dX0_drawn_5 : decode cX0_drawn 5 = .ok (.i2l, 1) := dk_133 (dk_at dksX0_drawn_0 5 rfl rfl)
theorem dX0_drawn_6 : decode cX0_drawn 6 = .ok (.lconst 0, 1) := dk_9 (dk_at dksX0_drawn_0 6 rfl rfl)
theorem dX0_drawn_7 : decode cX0_drawn 7 = .ok (.aload_n 0, 1) := dk_42 (dk_at dksX0_drawn_0 7 rfl rfl)
theorem dX0_drawn_8 : decode cX0_drawn 8 = .ok (.getfield 94, 3) := dk_180 0 94 (dk_at dksX0_drawn_0 8 rfl rfl)
theorem dX0_drawn_11 : decode cX0_drawn 11 = .ok (.iconst 1, 1) := dk_4 (dk_at dksX0_drawn_0 11 rfl rfl)
theorem dX0_drawn_12 : decode cX0_drawn 12 = .ok (.isub, 1) := dk_100 (dk_at dksX0_drawn_0 12 rfl rfl)
theorem dX0_drawn_13 : decode cX0_drawn 13 = .ok (.i2l, 1) := dk_133 (dk_at dksX0_drawn_0 13 rfl rfl)
theorem dX0_drawn_14 : decode cX0_drawn 14 = .ok (.invokestatic 128, 3) := dk_184 0 128 (dk_at dksX0_drawn_0 14 rfl rfl)
theorem dX0_drawn_17 : decode cX0_drawn 17 = .ok (.ifCond .eq 17, 3) := dk_153 0 17 (dk_at dksX0_drawn_0 17 rfl rfl)
theorem dX0_drawn_20 : decode cX0_drawn 20 = .ok (.aload_n 0, 1) := dk_42 (dk_at dksX0_drawn_0 20 rfl rfl)
theorem dX0_drawn_21 : decode cX0_drawn 21 = .ok (.getfield 91, 3) := dk_180 0 91 (dk_at dksX0_drawn_0 21 rfl rfl)
theorem dX0_drawn_24 : decode cX0_drawn 24 = .ok (.getfield 138, 3) := dk_180 0 138 (dk_at dksX0_drawn_1 0 rfl rfl)
theorem dX0_drawn_27 : decode cX0_drawn 27 = .ok (.iload_n 1, 1) := dk_27 (dk_at dksX0_drawn_1 3 rfl rfl)
theorem dX0_drawn_28 : decode cX0_drawn 28 = .ok (.ishr, 1) := dk_122 (dk_at dksX0_drawn_1 4 rfl rfl)
theorem dX0_drawn_29 : decode cX0_drawn 29 = .ok (.iconst 1, 1) := dk_4 (dk_at dksX0_drawn_1 5 rfl rfl)
theorem dX0_drawn_30 : decode cX0_drawn 30 = .ok (.iand, 1) := dk_126 (dk_at dksX0_drawn_1 6 rfl rfl)
theorem dX0_drawn_31 : decode cX0_drawn 31 = .ok (.goto 4, 3) := dk_167 0 4 (dk_at dksX0_drawn_1 7 rfl rfl)
theorem dX0_drawn_34 : decode cX0_drawn 34 = .ok (.iconst (-1), 1) := dk_2 (dk_at dksX0_drawn_1 10 rfl rfl)
theorem dX0_drawn_35 : decode cX0_drawn 35 = .ok (.ireturn, 1) := dk_172 (dk_at dksX0_drawn_1 11 rfl rfl)
theorem dX0_drawn_36 : decode cX0_drawn 36 = .ok (.iload_n 2, 1) := dk_28 (dk_at dksX0_drawn_1 12 rfl rfl)
theorem dX0_drawn_37 : decode cX0_drawn 37 = .ok (.iconst 1, 1) := dk_4 (dk_at dksX0_drawn_1 13 rfl rfl)
theorem dX0_drawn_38 : decode cX0_drawn 38 = .ok (.if_icmp .ne 31, 3) := dk_160 0 31 (dk_at dksX0_drawn_1 14 rfl rfl)
theorem dX0_drawn_41 : decode cX0_drawn 41 = .ok (.iload_n 1, 1) := dk_27 (dk_at dksX0_drawn_1 17 rfl rfl)
theorem dX0_drawn_42 : decode cX0_drawn 42 = .ok (.i2l, 1) := dk_133 (dk_at dksX0_drawn_1 18 rfl rfl)
theorem dX0_drawn_43 : decode cX0_drawn 43 = .ok (.lconst 0, 1) := dk_9 (dk_at dksX0_drawn_1 19 rfl rfl)
theorem dX0_drawn_44 : decode cX0_drawn 44 = .ok (.aload_n 0, 1) := dk_42 (dk_at dksX0_drawn_1 20 rfl rfl)
theorem dX0_drawn_45 : decode cX0_drawn 45 = .ok (.getfield 97, 3) := dk_180 0 97 (dk_at dksX0_drawn_1 21 rfl rfl)
theorem dX0_drawn_48 : decode cX0_drawn 48 = .ok (.iconst 1, 1) := dk_4 (dk_at dksX0_drawn_2 0 rfl rfl)
theorem dX0_drawn_49 : decode cX0_drawn 49 = .ok (.isub, 1) := dk_100 (dk_at dksX0_drawn_2 1 rfl rfl)
theorem dX0_drawn_50 : decode cX0_drawn 50 = .ok (.i2l, 1) := dk_133 (dk_at dksX0_drawn_2 2 rfl rfl)
theorem dX0_drawn_51 : decode cX0_drawn 51 = .ok (.invokestatic 128, 3) := dk_184 0 128 (dk_at dksX0_drawn_2 3 rfl rfl)
theorem dX0_drawn_54 : decode cX0_drawn 54 = .ok (.ifCond .eq 15, 3) := dk_153 0 15 (dk_at dksX0_drawn_2 6 rfl rfl)
theorem dX0_drawn_57 : decode cX0_drawn 57 = .ok (.aload_n 0, 1) := dk_42 (dk_at dksX0_drawn_2 9 rfl rfl)
theorem dX0_drawn_58 : decode cX0_drawn 58 = .ok (.getfield 91, 3) := dk_180 0 91 (dk_at dksX0_drawn_2 10 rfl rfl)
theorem dX0_drawn_61 : decode cX0_drawn 61 = .ok (.getfield 188, 3) := dk_180 0 188 (dk_at dksX0_drawn_2 13 rfl rfl)
theorem dX0_drawn_64 : decode cX0_drawn 64 = .ok (.iload_n 1, 1) := dk_27 (dk_at dksX0_drawn_2 16 rfl rfl)
theorem dX0_drawn_65 : decode cX0_drawn 65 = .ok (.iaload, 1) := dk_46 (dk_at dksX0_drawn_2 17 rfl rfl)
theorem dX0_drawn_66 : decode cX0_drawn 66 = .ok (.goto 4, 3) := dk_167 0 4 (dk_at dksX0_drawn_2 18 rfl rfl)
theorem dX0_drawn_69 : decode cX0_drawn 69 = .ok (.iconst (-1), 1) := dk_2 (dk_at dksX0_drawn_2 21 rfl rfl)
theorem dX0_drawn_70 : decode cX0_drawn 70 = .ok (.ireturn, 1) := dk_172 (dk_at dksX0_drawn_2 22 rfl rfl)
abbrev cX0_image : ByteArray := prog_1_method_86_code
def yX0_image : MethodName := ⟨RX0, "image", "(I)I"⟩
def dkwX0_image_1 : List UInt8 := [180, 0, 10, 182, 1, 199, 83, 42, 3, 182, 0, 112, 172]
abbrev dktX0_image_1 : List UInt8 := dkwX0_image_1 ++ []
def dkwX0_image_0 : List UInt8 := [27, 133, 9, 10, 184, 0, 128, 154, 0, 9, 42, 2, 182, 0, 112, 172, 42, 180, 0, 16, 27, 42]
abbrev dktX0_image_0 : List UInt8 := dkwX0_image_0 ++ dktX0_image_1
theorem dksX0_image_0 : cX0_image.data.toList.drop 0 = dktX0_image_0 := by decide +kernel
theorem dksX0_image_1 : cX0_image.data.toList.drop 22 = dktX0_image_1 := dk_seg dksX0_image_0 22 rfl rfl
theorem dX0_image_0 : decode cX0_image 0 = .ok (.iload_n 1, 1) := dk_27 (dk_at dksX0_image_0 0 rfl rfl)
theorem dX0_image_1 : decode cX0_image 1 = .ok (.i2l, 1) := dk_133 (dk_at dksX0_image_0 1 rfl rfl)
theorem dX0_image_2 : decode cX0_image 2 = .ok (.lconst 0, 1) := dk_9 (dk_at dksX0_image_0 2 rfl rfl)
theorem dX0_image_3 : decode cX0_image 3 = .ok (.lconst 1, 1) := dk_10 (dk_at dksX0_image_0 3 rfl rfl)
theorem dX0_image_4 : decode cX0_image 4 = .ok (.invokestatic 128, 3) := dk_184 0 128 (dk_at dksX0_image_0 4 rfl rfl)
theorem dX0_image_7 : decode cX0_image 7 = .ok (.ifCond .ne 9, 3) := dk_154 0 9 (dk_at dksX0_image_0 7 rfl rfl)
theorem dX0_image_10 : decode cX0_image 10 = .ok (.aload_n 0, 1) := dk_42 (dk_at dksX0_image_0 10 rfl rfl)
theorem dX0_image_11 : decode cX0_image 11 = .ok (.iconst (-1), 1) := dk_2 (dk_at dksX0_image_0 11 rfl rfl)
theorem dX0_image_12 : decode cX0_image 12 = .ok (.invokevirtual 112, 3) := dk_182 0 112 (dk_at dksX0_image_0 12 rfl rfl)
theorem dX0_image_15 : decode cX0_image 15 = .ok (.ireturn, 1) := dk_172 (dk_at dksX0_image_0 15 rfl rfl)
theorem dX0_image_16 : decode cX0_image 16 = .ok (.aload_n 0, 1) := dk_42 (dk_at dksX0_image_0 16 rfl rfl)
theorem dX0_image_17 : decode cX0_image 17 = .ok (.getfield 16, 3) := dk_180 0 16 (dk_at dksX0_image_0 17 rfl rfl)
theorem dX0_image_20 : decode cX0_image 20 = .ok (.iload_n 1, 1) := dk_27 (dk_at dksX0_image_0 20 rfl rfl)
theorem dX0_image_21 : decode cX0_image 21 = .ok (.aload_n 0, 1) := dk_42 (dk_at dksX0_image_0 21 rfl rfl)
theorem dX0_image_22 : decode cX0_image 22 = .ok (.getfield 10, 3) := dk_180 0 10 (dk_at dksX0_image_1 0 rfl rfl)
theorem dX0_image_25 : decode cX0_image 25 = .ok (.invokevirtual 455, 3) := dk_182 1 199 (dk_at dksX0_image_1 3 rfl rfl)
theorem dX0_image_28 : decode cX0_image 28 = .ok (.aastore, 1) := dk_83 (dk_at dksX0_image_1 6 rfl rfl)
theorem dX0_image_29 : decode cX0_image 29 = .ok (.aload_n 0, 1) := dk_42 (dk_at dksX0_image_1 7 rfl rfl)
theorem dX0_image_30 : decode cX0_image 30 = .ok (.iconst 0, 1) := dk_3 (dk_at dksX0_image_1 8 rfl rfl)
theorem dX0_image_31 : decode cX0_image 31 = .ok (.invokevirtual 112, 3) := dk_182 0 112 (dk_at dksX0_image_1 9 rfl rfl)
theorem dX0_image_34 : decode cX0_image 34 = .ok (.ireturn, 1) := dk_172 (dk_at dksX0_image_1 12 rfl rfl)
abbrev cX0_back : ByteArray := prog_1_method_87_code
def yX0_back : MethodName := ⟨RX0, "back", "(I)I"⟩
def dkwX0_back_2 : List UInt8 := [3, 182, 0, 169, 172]
abbrev dktX0_back_2 : List UInt8 := dkwX0_back_2 ++ []
def dkwX0_back_1 : List UInt8 := [199, 0, 10, 42, 16, 254, 182, 0, 112, 172, 42, 42, 180, 0, 16, 27, 50, 182, 1, 199, 181, 0, 10, 42]
abbrev dktX0_back_1 : List UInt8 := dkwX0_back_1 ++ dktX0_back_2
def dkwX0_back_0 : List UInt8 := [27, 133, 9, 10, 184, 0, 128, 154, 0, 9, 42, 2, 182, 0, 112, 172, 42, 180, 0, 16, 27, 50]
abbrev dktX0_back_0 : List UInt8 := dkwX0_back_0 ++ dktX0_back_1
theorem dksX0_back_0 : cX0_back.data.toList.drop 0 = dktX0_back_0 := by decide +kernel
theorem dksX0_back_1 : cX0_back.data.toList.drop 22 = dktX0_back_1 := dk_seg dksX0_back_0 22 rfl rfl
theorem dksX0_back_2 : cX0_back.data.toList.drop 46 = dktX0_back_2 := dk_seg dksX0_back_1 24 rfl rfl
theorem dX0_back_0 : decode cX0_back 0 = .ok (.iload_n 1, 1) := dk_27 (dk_at dksX0_back_0 0 rfl rfl)
theorem dX0_back_1 : decode cX0_back 1 = .ok (.i2l, 1) := dk_133 (dk_at dksX0_back_0 1 rfl rfl)
theorem dX0_back_2 : decode cX0_back 2 = .ok (.lconst 0, 1) := dk_9 (dk_at dksX0_back_0 2 rfl rfl)
theorem dX0_back_3 : decode cX0_back 3 = .ok (.lconst 1, 1) := dk_10 (dk_at dksX0_back_0 3 rfl rfl)
theorem dX0_back_4 : decode cX0_back 4 = .ok (.invokestatic 128, 3) := dk_184 0 128 (dk_at dksX0_back_0 4 rfl rfl)
theorem dX0_back_7 : decode cX0_back 7 = .ok (.ifCond .ne 9, 3) := dk_154 0 9 (dk_at dksX0_back_0 7 rfl rfl)
theorem dX0_back_10 : decode cX0_back 10 = .ok (.aload_n 0, 1) := dk_42 (dk_at dksX0_back_0 10 rfl rfl)
theorem dX0_back_11 : decode cX0_back 11 = .ok (.iconst (-1), 1) := dk_2 (dk_at dksX0_back_0 11 rfl rfl)
theorem dX0_back_12 : decode cX0_back 12 = .ok (.invokevirtual 112, 3) := dk_182 0 112 (dk_at dksX0_back_0 12 rfl rfl)
theorem dX0_back_15 : decode cX0_back 15 = .ok (.ireturn, 1) := dk_172 (dk_at dksX0_back_0 15 rfl rfl)
theorem dX0_back_16 : decode cX0_back 16 = .ok (.aload_n 0, 1) := dk_42 (dk_at dksX0_back_0 16 rfl rfl)
theorem dX0_back_17 : decode cX0_back 17 = .ok (.getfield 16, 3) := dk_180 0 16 (dk_at dksX0_back_0 17 rfl rfl)
theorem dX0_back_20 : decode cX0_back 20 = .ok (.iload_n 1, 1) := dk_27 (dk_at dksX0_back_0 20 rfl rfl)
theorem dX0_back_21 : decode cX0_back 21 = .ok (.aaload, 1) := dk_50 (dk_at dksX0_back_0 21 rfl rfl)
theorem dX0_back_22 : decode cX0_back 22 = .ok (.ifnonnull 10, 3) := dk_199 0 10 (dk_at dksX0_back_1 0 rfl rfl)
theorem dX0_back_25 : decode cX0_back 25 = .ok (.aload_n 0, 1) := dk_42 (dk_at dksX0_back_1 3 rfl rfl)
theorem dX0_back_26 : decode cX0_back 26 = .ok (.bipush (-2), 2) := dk_16 254 (dk_at dksX0_back_1 4 rfl rfl)
theorem dX0_back_28 : decode cX0_back 28 = .ok (.invokevirtual 112, 3) := dk_182 0 112 (dk_at dksX0_back_1 6 rfl rfl)
theorem dX0_back_31 : decode cX0_back 31 = .ok (.ireturn, 1) := dk_172 (dk_at dksX0_back_1 9 rfl rfl)
theorem dX0_back_32 : decode cX0_back 32 = .ok (.aload_n 0, 1) := dk_42 (dk_at dksX0_back_1 10 rfl rfl)
theorem dX0_back_33 : decode cX0_back 33 = .ok (.aload_n 0, 1) := dk_42 (dk_at dksX0_back_1 11 rfl rfl)
theorem dX0_back_34 : decode cX0_back 34 = .ok (.getfield 16, 3) := dk_180 0 16 (dk_at dksX0_back_1 12 rfl rfl)
theorem dX0_back_37 : decode cX0_back 37 = .ok (.iload_n 1, 1) := dk_27 (dk_at dksX0_back_1 15 rfl rfl)
theorem dX0_back_38 : decode cX0_back 38 = .ok (.aaload, 1) := dk_50 (dk_at dksX0_back_1 16 rfl rfl)
theorem dX0_back_39 : decode cX0_back 39 = .ok (.invokevirtual 455, 3) := dk_182 1 199 (dk_at dksX0_back_1 17 rfl rfl)
theorem dX0_back_42 : decode cX0_back 42 = .ok (.putfield 10, 3) := dk_181 0 10 (dk_at dksX0_back_1 20 rfl rfl)
theorem dX0_back_45 : decode cX0_back 45 = .ok (.aload_n 0, 1) := dk_42 (dk_at dksX0_back_1 23 rfl rfl)
theorem dX0_back_46 : decode cX0_back 46 = .ok (.iconst 0, 1) := dk_3 (dk_at dksX0_back_2 0 rfl rfl)
theorem dX0_back_47 : decode cX0_back 47 = .ok (.invokevirtual 169, 3) := dk_182 0 169 (dk_at dksX0_back_2 1 rfl rfl)
theorem dX0_back_50 : decode cX0_back 50 = .ok (.ireturn, 1) := dk_172 (dk_at dksX0_back_2 4 rfl rfl)
abbrev cX0_count : ByteArray := prog_1_method_88_code
def yX0_count : MethodName := ⟨RX0, "count", "(I)I"⟩
def dkwX0_count_7 : List UInt8 := [16, 13, 100, 182, 0, 213, 167, 0, 4, 2, 172]
abbrev dktX0_count_7 : List UInt8 := dkwX0_count_7 ++ []
def dkwX0_count_6 : List UInt8 := [180, 0, 10, 180, 1, 8, 172, 27, 133, 20, 1, 203, 20, 1, 205, 184, 0, 128, 153, 0, 14, 42, 27]
abbrev dktX0_count_6 : List UInt8 := dkwX0_count_6 ++ dktX0_count_7
def dkwX0_count_5 : List UInt8 := [180, 0, 61, 6, 46, 172, 42, 180, 0, 61, 8, 46, 172, 42, 180, 0, 61, 16, 6, 46, 172, 42]
abbrev dktX0_count_5 : List UInt8 := dkwX0_count_5 ++ dktX0_count_6
def dkwX0_count_4 : List UInt8 := [180, 0, 109, 172, 42, 180, 0, 148, 172, 42, 180, 0, 61, 4, 46, 172, 42, 180, 0, 61, 5, 46, 172, 42]
abbrev dktX0_count_4 : List UInt8 := dkwX0_count_4 ++ dktX0_count_5
def dkwX0_count_3 : List UInt8 := [180, 0, 10, 180, 1, 139, 172, 42, 180, 0, 10, 180, 0, 234, 182, 0, 238, 172, 42, 180, 0, 23]
abbrev dktX0_count_3 : List UInt8 := dkwX0_count_3 ++ dktX0_count_4
def dkwX0_count_2 : List UInt8 := [42, 182, 0, 125, 172, 42, 182, 0, 132, 172, 42, 182, 0, 135, 180, 0, 138, 184, 1, 21, 172, 42]
abbrev dktX0_count_2 : List UInt8 := dkwX0_count_2 ++ dktX0_count_3
def dkwX0_count_1 : List UInt8 := [170, 0, 0, 0, 0, 0, 164, 0, 0, 0, 0, 0, 0, 0, 12, 0, 0, 0, 67, 0, 0, 0, 72, 0, 0, 0, 77, 0, 0, 0, 88, 0, 0, 0, 96, 0, 0, 0, 107, 0, 0, 0, 115, 0, 0, 0, 120, 0, 0, 0, 127, 0, 0, 0, 134, 0, 0, 0, 141, 0, 0, 0, 148, 0, 0, 0, 156]
abbrev dktX0_count_1 : List UInt8 := dkwX0_count_1 ++ dktX0_count_2
def dkwX0_count_0 : List UInt8 := [27]
abbrev dktX0_count_0 : List UInt8 := dkwX0_count_0 ++ dktX0_count_1
theorem dksX0_count_0 : cX0_count.data.toList.drop 0 = dktX0_count_0 := by decide +kernel
theorem dksX0_count_1 : cX0_count.data.toList.drop 1 = dktX0_count_1 := dk_seg dksX0_count_0 1 rfl rfl
theorem dksX0_count_2 : cX0_count.data.toList.drop 68 = dktX0_count_2 := dk_seg dksX0_count_1 67 rfl rfl
theorem dksX0_count_3 : cX0_count.data.toList.drop 90 = dktX0_count_3 := dk_seg dksX0_count_2 22 rfl rfl
theorem dksX0_count_4 : cX0_count.data.toList.drop 112 = dktX0_count_4 := dk_seg dksX0_count_3 22 rfl rfl
theorem dksX0_count_5 : cX0_count.data.toList.drop 136 = dktX0_count_5 := dk_seg dksX0_count_4 24 rfl rfl
theorem dksX0_count_6 : cX0_count.data.toList.drop 158 = dktX0_count_6 := dk_seg dksX0_count_5 22 rfl rfl
theorem dksX0_count_7 : cX0_count.data.toList.drop 181 = dktX0_count_7 := dk_seg dksX0_count_6 23 rfl rfl
theorem dX0_count_0 : decode cX0_count 0 = .ok (.iload_n 1, 1) := dk_27 (dk_at dksX0_count_0 0 rfl rfl)
theorem dX0_count_1 : decode cX0_count 1 = .ok (.tableswitch 164 0 12 #[67, 72, 77, 88, 96, 107, 115, 120, 127, 134, 141, 148, 156], 67) := by decide +kernel
theorem dX0_count_68 : decode cX0_count 68 = .ok (.aload_n 0, 1) := dk_42 (dk_at dksX0_count_2 0 rfl rfl)
theorem dX0_count_69 : decode cX0_count 69 = .ok (.invokevirtual 125, 3) := dk_182 0 125 (dk_at dksX0_count_2 1 rfl rfl)
theorem dX0_count_72 : decode cX0_count 72 = .ok (.ireturn, 1) := dk_172 (dk_at dksX0_count_2 4 rfl rfl)
theorem dX0_count_73 : decode cX0_count 73 = .ok (.aload_n 0, 1) := dk_42 (dk_at dksX0_count_2 5 rfl rfl)
theorem dX0_count_74 : decode cX0_count 74 = .ok (.invokevirtual 132, 3) := dk_182 0 132 (dk_at dksX0_count_2 6 rfl rfl)
theorem dX0_count_77 : decode cX0_count 77 = .ok (.ireturn, 1) := dk_172 (dk_at dksX0_count_2 9 rfl rfl)
theorem dX0_count_78 : decode cX0_count 78 = .ok (.aload_n 0, 1) := dk_42 (dk_at dksX0_count_2 10 rfl rfl)
theorem dX0_count_79 : decode cX0_count 79 = .ok (.invokevirtual 135, 3) := dk_182 0 135 (dk_at dksX0_count_2 11 rfl rfl)
theorem dX0_count_82 : decode cX0_count 82 = .ok (.getfield 138, 3) := dk_180 0 138 (dk_at dksX0_count_2 14 rfl rfl)
theorem dX0_count_85 : decode cX0_count 85 = .ok (.invokestatic 277, 3) := dk_184 1 21 (dk_at dksX0_count_2 17 rfl rfl)
theorem dX0_count_88 : decode cX0_count 88 = .ok (.ireturn, 1) := dk_172 (dk_at dksX0_count_2 20 rfl rfl)
theorem dX0_count_89 : decode cX0_count 89 = .ok (.aload_n 0, 1) := dk_42 (dk_at dksX0_count_2 21 rfl rfl)
theorem dX0_count_90 : decode cX0_count 90 = .ok (.getfield 10, 3) := dk_180 0 10 (dk_at dksX0_count_3 0 rfl rfl)
theorem dX0_count_93 : decode cX0_count 93 = .ok (.getfield 395, 3) := dk_180 1 139 (dk_at dksX0_count_3 3 rfl rfl)
theorem dX0_count_96 : decode cX0_count 96 = .ok (.ireturn, 1) := dk_172 (dk_at dksX0_count_3 6 rfl rfl)
theorem dX0_count_97 : decode cX0_count 97 = .ok (.aload_n 0, 1) := dk_42 (dk_at dksX0_count_3 7 rfl rfl)
theorem dX0_count_98 : decode cX0_count 98 = .ok (.getfield 10, 3) := dk_180 0 10 (dk_at dksX0_count_3 8 rfl rfl)
theorem dX0_count_101 : decode cX0_count 101 = .ok (.getfield 234, 3) := dk_180 0 234 (dk_at dksX0_count_3 11 rfl rfl)
theorem dX0_count_104 : decode cX0_count 104 = .ok (.invokevirtual 238, 3) := dk_182 0 238 (dk_at dksX0_count_3 14 rfl rfl)
theorem dX0_count_107 : decode cX0_count 107 = .ok (.ireturn, 1) := dk_172 (dk_at dksX0_count_3 17 rfl rfl)
theorem dX0_count_108 : decode cX0_count 108 = .ok (.aload_n 0, 1) := dk_42 (dk_at dksX0_count_3 18 rfl rfl)
theorem dX0_count_109 : decode cX0_count 109 = .ok (.getfield 23, 3) := dk_180 0 23 (dk_at dksX0_count_3 19 rfl rfl)
theorem dX0_count_112 : decode cX0_count 112 = .ok (.getfield 109, 3) := dk_180 0 109 (dk_at dksX0_count_4 0 rfl rfl)
theorem dX0_count_115 : decode cX0_count 115 = .ok (.ireturn, 1) := dk_172 (dk_at dksX0_count_4 3 rfl rfl)
theorem dX0_count_116 : decode cX0_count 116 = .ok (.aload_n 0, 1) := dk_42 (dk_at dksX0_count_4 4 rfl rfl)
theorem dX0_count_117 : decode cX0_count 117 = .ok (.getfield 148, 3) := dk_180 0 148 (dk_at dksX0_count_4 5 rfl rfl)
theorem dX0_count_120 : decode cX0_count 120 = .ok (.ireturn, 1) := dk_172 (dk_at dksX0_count_4 8 rfl rfl)
theorem dX0_count_121 : decode cX0_count 121 = .ok (.aload_n 0, 1) := dk_42 (dk_at dksX0_count_4 9 rfl rfl)
theorem dX0_count_122 : decode cX0_count 122 = .ok (.getfield 61, 3) := dk_180 0 61 (dk_at dksX0_count_4 10 rfl rfl)
theorem dX0_count_125 : decode cX0_count 125 = .ok (.iconst 1, 1) := dk_4 (dk_at dksX0_count_4 13 rfl rfl)
theorem dX0_count_126 : decode cX0_count 126 = .ok (.iaload, 1) := dk_46 (dk_at dksX0_count_4 14 rfl rfl)
theorem dX0_count_127 : decode cX0_count 127 = .ok (.ireturn, 1) := dk_172 (dk_at dksX0_count_4 15 rfl rfl)
theorem dX0_count_128 : decode cX0_count 128 = .ok (.aload_n 0, 1) := dk_42 (dk_at dksX0_count_4 16 rfl rfl)
theorem dX0_count_129 : decode cX0_count 129 = .ok (.getfield 61, 3) := dk_180 0 61 (dk_at dksX0_count_4 17 rfl rfl)
theorem dX0_count_132 : decode cX0_count 132 = .ok (.iconst 2, 1) := dk_5 (dk_at dksX0_count_4 20 rfl rfl)
theorem dX0_count_133 : decode cX0_count 133 = .ok (.iaload, 1) := dk_46 (dk_at dksX0_count_4 21 rfl rfl)
theorem dX0_count_134 : decode cX0_count 134 = .ok (.ireturn, 1) := dk_172 (dk_at dksX0_count_4 22 rfl rfl)
theorem dX0_count_135 : decode cX0_count 135 = .ok (.aload_n 0, 1) := dk_42 (dk_at dksX0_count_4 23 rfl rfl)
theorem dX0_count_136 : decode cX0_count 136 = .ok (.getfield 61, 3) := dk_180 0 61 (dk_at dksX0_count_5 0 rfl rfl)
theorem dX0_count_139 : decode cX0_count 139 = .ok (.iconst 3, 1) := dk_6 (dk_at dksX0_count_5 3 rfl rfl)
theorem dX0_count_140 : decode cX0_count 140 = .ok (.iaload, 1) := dk_46 (dk_at dksX0_count_5 4 rfl rfl)
theorem dX0_count_141 : decode cX0_count 141 = .ok (.ireturn, 1) := dk_172 (dk_at dksX0_count_5 5 rfl rfl)
theorem dX0_count_142 : decode cX0_count 142 = .ok (.aload_n 0, 1) := dk_42 (dk_at dksX0_count_5 6 rfl rfl)
theorem dX0_count_143 : decode cX0_count 143 = .ok (.getfield 61, 3) := dk_180 0 61 (dk_at dksX0_count_5 7 rfl rfl)
theorem dX0_count_146 : decode cX0_count 146 = .ok (.iconst 5, 1) := dk_8 (dk_at dksX0_count_5 10 rfl rfl)
theorem dX0_count_147 : decode cX0_count 147 = .ok (.iaload, 1) := dk_46 (dk_at dksX0_count_5 11 rfl rfl)
theorem dX0_count_148 : decode cX0_count 148 = .ok (.ireturn, 1) := dk_172 (dk_at dksX0_count_5 12 rfl rfl)
theorem dX0_count_149 : decode cX0_count 149 = .ok (.aload_n 0, 1) := dk_42 (dk_at dksX0_count_5 13 rfl rfl)
theorem dX0_count_150 : decode cX0_count 150 = .ok (.getfield 61, 3) := dk_180 0 61 (dk_at dksX0_count_5 14 rfl rfl)
theorem dX0_count_153 : decode cX0_count 153 = .ok (.bipush 6, 2) := dk_16 6 (dk_at dksX0_count_5 17 rfl rfl)
theorem dX0_count_155 : decode cX0_count 155 = .ok (.iaload, 1) := dk_46 (dk_at dksX0_count_5 19 rfl rfl)
theorem dX0_count_156 : decode cX0_count 156 = .ok (.ireturn, 1) := dk_172 (dk_at dksX0_count_5 20 rfl rfl)
theorem dX0_count_157 : decode cX0_count 157 = .ok (.aload_n 0, 1) := dk_42 (dk_at dksX0_count_5 21 rfl rfl)
theorem dX0_count_158 : decode cX0_count 158 = .ok (.getfield 10, 3) := dk_180 0 10 (dk_at dksX0_count_6 0 rfl rfl)
theorem dX0_count_161 : decode cX0_count 161 = .ok (.getfield 264, 3) := dk_180 1 8 (dk_at dksX0_count_6 3 rfl rfl)
theorem dX0_count_164 : decode cX0_count 164 = .ok (.ireturn, 1) := dk_172 (dk_at dksX0_count_6 6 rfl rfl)
theorem dX0_count_165 : decode cX0_count 165 = .ok (.iload_n 1, 1) := dk_27 (dk_at dksX0_count_6 7 rfl rfl)
theorem dX0_count_166 : decode cX0_count 166 = .ok (.i2l, 1) := dk_133 (dk_at dksX0_count_6 8 rfl rfl)
theorem dX0_count_167 : decode cX0_count 167 = .ok (.ldc2_w 459, 3) := dk_20 1 203 (dk_at dksX0_count_6 9 rfl rfl)
theorem dX0_count_170 : decode cX0_count 170 = .ok (.ldc2_w 461, 3) := dk_20 1 205 (dk_at dksX0_count_6 12 rfl rfl)
theorem dX0_count_173 : decode cX0_count 173 = .ok (.invokestatic 128, 3) := dk_184 0 128 (dk_at dksX0_count_6 15 rfl rfl)
theorem dX0_count_176 : decode cX0_count 176 = .ok (.ifCond .eq 14, 3) := dk_153 0 14 (dk_at dksX0_count_6 18 rfl rfl)
theorem dX0_count_179 : decode cX0_count 179 = .ok (.aload_n 0, 1) := dk_42 (dk_at dksX0_count_6 21 rfl rfl)
theorem dX0_count_180 : decode cX0_count 180 = .ok (.iload_n 1, 1) := dk_27 (dk_at dksX0_count_6 22 rfl rfl)
theorem dX0_count_181 : decode cX0_count 181 = .ok (.bipush 13, 2) := dk_16 13 (dk_at dksX0_count_7 0 rfl rfl)
theorem dX0_count_183 : decode cX0_count 183 = .ok (.isub, 1) := dk_100 (dk_at dksX0_count_7 2 rfl rfl)
theorem dX0_count_184 : decode cX0_count 184 = .ok (.invokevirtual 213, 3) := dk_182 0 213 (dk_at dksX0_count_7 3 rfl rfl)
theorem dX0_count_187 : decode cX0_count 187 = .ok (.goto 4, 3) := dk_167 0 4 (dk_at dksX0_count_7 6 rfl rfl)
theorem dX0_count_190 : decode cX0_count 190 = .ok (.iconst (-1), 1) := dk_2 (dk_at dksX0_count_7 9 rfl rfl)
theorem dX0_count_191 : decode cX0_count 191 = .ok (.ireturn, 1) := dk_172 (dk_at dksX0_count_7 10 rfl rfl)
abbrev cX0_status : ByteArray := prog_1_method_89_code
def yX0_status : MethodName := ⟨RX0, "status", "()I"⟩
theorem dX0_status_0 : decode cX0_status 0 = .ok (.aload_n 0, 1) := by decide +kernel
theorem dX0_status_1 : decode cX0_status 1 = .ok (.getfield 106, 3) := by decide +kernel
theorem dX0_status_4 : decode cX0_status 4 = .ok (.ireturn, 1) := by decide +kernel
theorem q137 : (Jvm.Cond.initialized "LeekReadings") ∈ lw_all := lw_g (lw_at lw_m1 1 rfl) rfl
theorem q179 : (Jvm.Cond.instantiable "LeekReadings" (31 : Nat)) ∈ lw_all := lw_g (lw_at lw_m1 43 rfl) rfl
theorem q181 : (Jvm.Cond.instanceMethod ({ cls := "LeekReadings", name := "<init>", desc := "()V" } : Jvm.MethodName)) ∈ lw_all := lw_g (lw_at lw_m1 45 rfl) rfl
theorem q182 : (Jvm.Cond.code ({ cls := "LeekReadings", name := "<init>", desc := "()V" } : Jvm.MethodName) prog_1_method_3_code (1 : Nat) (Option.none : Option Jvm.ClassFile.FieldType)) ∈ lw_all := lw_g (lw_at lw_m1 46 rfl) rfl
theorem q183 : (Jvm.Cond.methodLink "LeekReadings" (1 : Nat) ({ cls := "java/lang/Object", name := "<init>", desc := "()V" } : Jvm.MethodName)) ∈ lw_all := lw_g (lw_at lw_m1 47 rfl) rfl
theorem q186 : (Jvm.Cond.classLink "LeekReadings" (7 : Nat) "LeekReadings$Bed") ∈ lw_all := lw_g (lw_at lw_m1 50 rfl) rfl
theorem q188 : (Jvm.Cond.methodLinkNest "LeekReadings" (9 : Nat) ({ cls := "LeekReadings$Bed", name := "<init>", desc := "()V" } : Jvm.MethodName) "LeekReadings") ∈ lw_tbl := lw_at lw_m1 52 rfl
theorem q228 : (Jvm.Cond.fieldLinkNest "LeekReadings" (188 : Nat) "LeekReadings$Books" "high" "[I" "LeekReadings") ∈ lw_tbl := lw_at lw_m1 92 rfl
theorem q231 : (Jvm.Cond.fieldLinkNest "LeekReadings" (138 : Nat) "LeekReadings$Books" "known" "I" "LeekReadings") ∈ lw_tbl := lw_at lw_m1 95 rfl
theorem q234 : (Jvm.Cond.fieldLinkNest "LeekReadings" (204 : Nat) "LeekReadings$Books" "day" "I" "LeekReadings") ∈ lw_tbl := lw_at lw_m1 98 rfl
theorem q237 : (Jvm.Cond.fieldLinkNest "LeekReadings" (338 : Nat) "LeekReadings$Books" "sort" "I" "LeekReadings") ∈ lw_tbl := lw_at lw_m1 101 rfl
theorem q249 : (Jvm.Cond.fieldLinkNest "LeekReadings" (234 : Nat) "LeekReadings$Bed" "laws" "Ljava/util/ArrayList;" "LeekReadings") ∈ lw_tbl := lw_at lw_m1 113 rfl
theorem q251 : (Jvm.Cond.fieldLinkNest "LeekReadings" (159 : Nat) "LeekReadings$Bed" "lengths" "[I" "LeekReadings") ∈ lw_tbl := lw_at lw_m1 115 rfl
theorem q253 : (Jvm.Cond.fieldLinkNest "LeekReadings" (162 : Nat) "LeekReadings$Bed" "kinds" "[I" "LeekReadings") ∈ lw_tbl := lw_at lw_m1 117 rfl
theorem q255 : (Jvm.Cond.fieldLinkNest "LeekReadings" (145 : Nat) "LeekReadings$Bed" "needs" "[I" "LeekReadings") ∈ lw_tbl := lw_at lw_m1 119 rfl
theorem q257 : (Jvm.Cond.fieldLinkNest "LeekReadings" (185 : Nat) "LeekReadings$Bed" "likes" "[I" "LeekReadings") ∈ lw_tbl := lw_at lw_m1 121 rfl
theorem q259 : (Jvm.Cond.fieldLinkNest "LeekReadings" (207 : Nat) "LeekReadings$Bed" "terms" "[I" "LeekReadings") ∈ lw_tbl := lw_at lw_m1 123 rfl
theorem q261 : (Jvm.Cond.fieldLinkNest "LeekReadings" (398 : Nat) "LeekReadings$Bed" "seen" "[[I" "LeekReadings") ∈ lw_tbl := lw_at lw_m1 125 rfl
theorem q263 : (Jvm.Cond.fieldLinkNest "LeekReadings" (116 : Nat) "LeekReadings$Bed" "books" "LLeekReadings$Books;" "LeekReadings") ∈ lw_tbl := lw_at lw_m1 127 rfl
theorem q265 : (Jvm.Cond.fieldLinkNest "LeekReadings" (119 : Nat) "LeekReadings$Bed" "nBooks" "I" "LeekReadings") ∈ lw_tbl := lw_at lw_m1 129 rfl
theorem q267 : (Jvm.Cond.fieldLinkNest "LeekReadings" (122 : Nat) "LeekReadings$Bed" "leeks" "I" "LeekReadings") ∈ lw_tbl := lw_at lw_m1 131 rfl
theorem q269 : (Jvm.Cond.fieldLinkNest "LeekReadings" (395 : Nat) "LeekReadings$Bed" "nSeen" "I" "LeekReadings") ∈ lw_tbl := lw_at lw_m1 133 rfl
theorem q271 : (Jvm.Cond.fieldLinkNest "LeekReadings" (264 : Nat) "LeekReadings$Bed" "inForce" "I" "LeekReadings") ∈ lw_tbl := lw_at lw_m1 135 rfl
theorem q298 : (Jvm.Cond.classLink "LeekReadings" (20 : Nat) "LeekReadings$Steps") ∈ lw_all := lw_g (lw_at lw_m1 162 rfl) rfl
theorem q300 : (Jvm.Cond.methodLink "LeekReadings" (22 : Nat) ({ cls := "LeekReadings$Steps", name := "<init>", desc := "()V" } : Jvm.MethodName)) ∈ lw_all := lw_g (lw_at lw_m1 164 rfl) rfl
theorem q308 : (Jvm.Cond.fieldLinkNest "LeekReadings" (330 : Nat) "LeekReadings$Steps" "row" "[LLeekReadings$Books;" "LeekReadings") ∈ lw_tbl := lw_at lw_m1 172 rfl
theorem q310 : (Jvm.Cond.fieldLinkNest "LeekReadings" (109 : Nat) "LeekReadings$Steps" "n" "I" "LeekReadings") ∈ lw_tbl := lw_at lw_m1 174 rfl
theorem q316 : (Jvm.Cond.classLink "LeekReadings" (30 : Nat) "LeekReadings$Books") ∈ lw_all := lw_g (lw_at lw_m1 180 rfl) rfl
theorem q317 : (Jvm.Cond.methodLinkNest "LeekReadings" (32 : Nat) ({ cls := "LeekReadings$Books", name := "<init>", desc := "()V" } : Jvm.MethodName) "LeekReadings") ∈ lw_tbl := lw_at lw_m1 181 rfl
theorem q318 : (Jvm.Cond.classLink "LeekReadings" (40 : Nat) "LeekReadings$Asked") ∈ lw_all := lw_g (lw_at lw_m1 182 rfl) rfl
theorem q320 : (Jvm.Cond.methodLinkNest "LeekReadings" (42 : Nat) ({ cls := "LeekReadings$Asked", name := "<init>", desc := "()V" } : Jvm.MethodName) "LeekReadings") ∈ lw_tbl := lw_at lw_m1 184 rfl
theorem q327 : (Jvm.Cond.fieldLinkNest "LeekReadings" (271 : Nat) "LeekReadings$Asked" "numbers" "[J" "LeekReadings") ∈ lw_tbl := lw_at lw_m1 191 rfl
theorem q341 : (Jvm.Cond.classLink "LeekReadings" (50 : Nat) "LeekReadings$Text") ∈ lw_all := lw_g (lw_at lw_m1 205 rfl) rfl
theorem q343 : (Jvm.Cond.classLink "LeekReadings" (52 : Nat) "LeekReadings$Clause") ∈ lw_all := lw_g (lw_at lw_m1 207 rfl) rfl
theorem q345 : (Jvm.Cond.methodLink "LeekReadings" (54 : Nat) ({ cls := "LeekReadings$Text", name := "<init>", desc := "([LLeekReadings$Clause;)V" } : Jvm.MethodName)) ∈ lw_all := lw_g (lw_at lw_m1 209 rfl) rfl
theorem q353 : (Jvm.Cond.fieldLink "LeekReadings" (10 : Nat) "LeekReadings" "bed" "LLeekReadings$Bed;") ∈ lw_all := lw_g (lw_at lw_m1 217 rfl) rfl
theorem q354 : (Jvm.Cond.fieldLink "LeekReadings" (16 : Nat) "LeekReadings" "images" "[LLeekReadings$Bed;") ∈ lw_all := lw_g (lw_at lw_m1 218 rfl) rfl
theorem q355 : (Jvm.Cond.fieldLink "LeekReadings" (23 : Nat) "LeekReadings" "undos" "LLeekReadings$Steps;") ∈ lw_all := lw_g (lw_at lw_m1 219 rfl) rfl
theorem q356 : (Jvm.Cond.fieldLink "LeekReadings" (27 : Nat) "LeekReadings" "before" "LLeekReadings$Steps;") ∈ lw_all := lw_g (lw_at lw_m1 220 rfl) rfl
theorem q357 : (Jvm.Cond.fieldLink "LeekReadings" (33 : Nat) "LeekReadings" "ahead" "LLeekReadings$Books;") ∈ lw_all := lw_g (lw_at lw_m1 221 rfl) rfl
theorem q358 : (Jvm.Cond.fieldLink "LeekReadings" (37 : Nat) "LeekReadings" "real" "LLeekReadings$Books;") ∈ lw_all := lw_g (lw_at lw_m1 222 rfl) rfl
theorem q359 : (Jvm.Cond.fieldLink "LeekReadings" (43 : Nat) "LeekReadings" "asked" "LLeekReadings$Asked;") ∈ lw_all := lw_g (lw_at lw_m1 223 rfl) rfl
theorem q361 : (Jvm.Cond.fieldLink "LeekReadings" (47 : Nat) "LeekReadings" "inOrders" "LLeekReadings$Asked;") ∈ lw_all := lw_g (lw_at lw_m1 225 rfl) rfl
theorem q362 : (Jvm.Cond.fieldLink "LeekReadings" (57 : Nat) "LeekReadings" "nothingTold" "LLeekReadings$Text;") ∈ lw_all := lw_g (lw_at lw_m1 226 rfl) rfl
theorem q363 : (Jvm.Cond.fieldLink "LeekReadings" (61 : Nat) "LeekReadings" "refused" "[I") ∈ lw_all := lw_g (lw_at lw_m1 227 rfl) rfl
theorem q364 : (Jvm.Cond.fieldLink "LeekReadings" (106 : Nat) "LeekReadings" "status" "I") ∈ lw_all := lw_g (lw_at lw_m1 228 rfl) rfl
theorem q365 : (Jvm.Cond.fieldLink "LeekReadings" (65 : Nat) "LeekReadings" "fault" "I") ∈ lw_all := lw_g (lw_at lw_m1 229 rfl) rfl
theorem q366 : (Jvm.Cond.fieldLink "LeekReadings" (225 : Nat) "LeekReadings" "slugs" "I") ∈ lw_all := lw_g (lw_at lw_m1 230 rfl) rfl
theorem q367 : (Jvm.Cond.fieldLink "LeekReadings" (69 : Nat) "LeekReadings" "stopped" "I") ∈ lw_all := lw_g (lw_at lw_m1 231 rfl) rfl
theorem q369 : (Jvm.Cond.fieldLink "LeekReadings" (72 : Nat) "LeekReadings" "tape" "[B") ∈ lw_all := lw_g (lw_at lw_m1 233 rfl) rfl
theorem q372 : (Jvm.Cond.fieldLink "LeekReadings" (148 : Nat) "LeekReadings" "taped" "I") ∈ lw_all := lw_g (lw_at lw_m1 236 rfl) rfl
theorem q373 : (Jvm.Cond.fieldLink "LeekReadings" (76 : Nat) "LeekReadings" "change" "[I") ∈ lw_all := lw_g (lw_at lw_m1 237 rfl) rfl
theorem q374 : (Jvm.Cond.fieldLink "LeekReadings" (79 : Nat) "LeekReadings" "orders" "[I") ∈ lw_all := lw_g (lw_at lw_m1 238 rfl) rfl
theorem q375 : (Jvm.Cond.fieldLink "LeekReadings" (82 : Nat) "LeekReadings" "tried" "[I") ∈ lw_all := lw_g (lw_at lw_m1 239 rfl) rfl
theorem q376 : (Jvm.Cond.fieldLink "LeekReadings" (85 : Nat) "LeekReadings" "best" "[I") ∈ lw_all := lw_g (lw_at lw_m2 0 rfl) rfl
theorem q377 : (Jvm.Cond.fieldLink "LeekReadings" (374 : Nat) "LeekReadings" "wished" "I") ∈ lw_all := lw_g (lw_at lw_m2 1 rfl) rfl
theorem q378 : (Jvm.Cond.fieldLink "LeekReadings" (371 : Nat) "LeekReadings" "length" "I") ∈ lw_all := lw_g (lw_at lw_m2 2 rfl) rfl
theorem q379 : (Jvm.Cond.fieldLink "LeekReadings" (368 : Nat) "LeekReadings" "tallest" "I") ∈ lw_all := lw_g (lw_at lw_m2 3 rfl) rfl
theorem q380 : (Jvm.Cond.fieldLink "LeekReadings" (383 : Nat) "LeekReadings" "soonest" "I") ∈ lw_all := lw_g (lw_at lw_m2 4 rfl) rfl
theorem q381 : (Jvm.Cond.fieldLink "LeekReadings" (386 : Nat) "LeekReadings" "goal" "I") ∈ lw_all := lw_g (lw_at lw_m2 5 rfl) rfl
theorem q382 : (Jvm.Cond.fieldLink "LeekReadings" (88 : Nat) "LeekReadings" "alike" "[I") ∈ lw_all := lw_g (lw_at lw_m2 6 rfl) rfl
theorem q384 : (Jvm.Cond.fieldLink "LeekReadings" (426 : Nat) "LeekReadings" "done" "I") ∈ lw_all := lw_g (lw_at lw_m2 8 rfl) rfl
theorem q386 : (Jvm.Cond.fieldLink "LeekReadings" (438 : Nat) "LeekReadings" "latest" "I") ∈ lw_all := lw_g (lw_at lw_m2 10 rfl) rfl
theorem q387 : (Jvm.Cond.fieldLink "LeekReadings" (91 : Nat) "LeekReadings" "drawn" "LLeekReadings$Books;") ∈ lw_all := lw_g (lw_at lw_m2 11 rfl) rfl
theorem q388 : (Jvm.Cond.fieldLink "LeekReadings" (94 : Nat) "LeekReadings" "drawnBooks" "I") ∈ lw_all := lw_g (lw_at lw_m2 12 rfl) rfl
theorem q389 : (Jvm.Cond.fieldLink "LeekReadings" (97 : Nat) "LeekReadings" "drawnLeeks" "I") ∈ lw_all := lw_g (lw_at lw_m2 13 rfl) rfl
theorem q390 : (Jvm.Cond.lays "LeekReadings" "LeekReadings" "bed" "LLeekReadings$Bed;") ∈ lw_all := lw_g (lw_at lw_m2 14 rfl) rfl
theorem q391 : (Jvm.Cond.soleField "LeekReadings" "bed") ∈ lw_all := lw_g (lw_at lw_m2 15 rfl) rfl
theorem q392 : (Jvm.Cond.laysFinal "LeekReadings" "LeekReadings" "images" "[LLeekReadings$Bed;") ∈ lw_all := lw_g (lw_at lw_m2 16 rfl) rfl
theorem q393 : (Jvm.Cond.soleField "LeekReadings" "images") ∈ lw_all := lw_g (lw_at lw_m2 17 rfl) rfl
theorem q394 : (Jvm.Cond.laysFinal "LeekReadings" "LeekReadings" "undos" "LLeekReadings$Steps;") ∈ lw_all := lw_g (lw_at lw_m2 18 rfl) rfl
theorem q395 : (Jvm.Cond.soleField "LeekReadings" "undos") ∈ lw_all := lw_g (lw_at lw_m2 19 rfl) rfl
theorem q396 : (Jvm.Cond.laysFinal "LeekReadings" "LeekReadings" "before" "LLeekReadings$Steps;") ∈ lw_all := lw_g (lw_at lw_m2 20 rfl) rfl
theorem q397 : (Jvm.Cond.soleField "LeekReadings" "before") ∈ lw_all := lw_g (lw_at lw_m2 21 rfl) rfl
theorem q398 : (Jvm.Cond.laysFinal "LeekReadings" "LeekReadings" "ahead" "LLeekReadings$Books;") ∈ lw_all := lw_g (lw_at lw_m2 22 rfl) rfl
theorem q399 : (Jvm.Cond.soleField "LeekReadings" "ahead") ∈ lw_all := lw_g (lw_at lw_m2 23 rfl) rfl
theorem q400 : (Jvm.Cond.laysFinal "LeekReadings" "LeekReadings" "real" "LLeekReadings$Books;") ∈ lw_all := lw_g (lw_at lw_m2 24 rfl) rfl
theorem q401 : (Jvm.Cond.soleField "LeekReadings" "real") ∈ lw_all := lw_g (lw_at lw_m2 25 rfl) rfl
theorem q402 : (Jvm.Cond.laysFinal "LeekReadings" "LeekReadings" "asked" "LLeekReadings$Asked;") ∈ lw_all := lw_g (lw_at lw_m2 26 rfl) rfl
theorem q403 : (Jvm.Cond.soleField "LeekReadings" "asked") ∈ lw_all := lw_g (lw_at lw_m2 27 rfl) rfl
theorem q404 : (Jvm.Cond.laysFinal "LeekReadings" "LeekReadings" "inOrders" "LLeekReadings$Asked;") ∈ lw_all := lw_g (lw_at lw_m2 28 rfl) rfl
theorem q405 : (Jvm.Cond.soleField "LeekReadings" "inOrders") ∈ lw_all := lw_g (lw_at lw_m2 29 rfl) rfl
theorem q406 : (Jvm.Cond.laysFinal "LeekReadings" "LeekReadings" "nothingTold" "LLeekReadings$Text;") ∈ lw_all := lw_g (lw_at lw_m2 30 rfl) rfl
theorem q407 : (Jvm.Cond.soleField "LeekReadings" "nothingTold") ∈ lw_all := lw_g (lw_at lw_m2 31 rfl) rfl
theorem q408 : (Jvm.Cond.laysFinal "LeekReadings" "LeekReadings" "refused" "[I") ∈ lw_all := lw_g (lw_at lw_m2 32 rfl) rfl
theorem q409 : (Jvm.Cond.soleField "LeekReadings" "refused") ∈ lw_all := lw_g (lw_at lw_m2 33 rfl) rfl
theorem q410 : (Jvm.Cond.lays "LeekReadings" "LeekReadings" "status" "I") ∈ lw_all := lw_g (lw_at lw_m2 34 rfl) rfl
theorem q411 : (Jvm.Cond.soleField "LeekReadings" "status") ∈ lw_all := lw_g (lw_at lw_m2 35 rfl) rfl
theorem q412 : (Jvm.Cond.lays "LeekReadings" "LeekReadings" "fault" "I") ∈ lw_all := lw_g (lw_at lw_m2 36 rfl) rfl
theorem q413 : (Jvm.Cond.soleField "LeekReadings" "fault") ∈ lw_all := lw_g (lw_at lw_m2 37 rfl) rfl
theorem q414 : (Jvm.Cond.lays "LeekReadings" "LeekReadings" "slugs" "I") ∈ lw_all := lw_g (lw_at lw_m2 38 rfl) rfl
theorem q415 : (Jvm.Cond.soleField "LeekReadings" "slugs") ∈ lw_all := lw_g (lw_at lw_m2 39 rfl) rfl
theorem q416 : (Jvm.Cond.lays "LeekReadings" "LeekReadings" "stopped" "I") ∈ lw_all := lw_g (lw_at lw_m2 40 rfl) rfl
theorem q417 : (Jvm.Cond.soleField "LeekReadings" "stopped") ∈ lw_all := lw_g (lw_at lw_m2 41 rfl) rfl
theorem q418 : (Jvm.Cond.laysFinal "LeekReadings" "LeekReadings" "tape" "[B") ∈ lw_all := lw_g (lw_at lw_m2 42 rfl) rfl
theorem q419 : (Jvm.Cond.soleField "LeekReadings" "tape") ∈ lw_all := lw_g (lw_at lw_m2 43 rfl) rfl
theorem q420 : (Jvm.Cond.lays "LeekReadings" "LeekReadings" "taped" "I") ∈ lw_all := lw_g (lw_at lw_m2 44 rfl) rfl
theorem q421 : (Jvm.Cond.soleField "LeekReadings" "taped") ∈ lw_all := lw_g (lw_at lw_m2 45 rfl) rfl
theorem q422 : (Jvm.Cond.laysFinal "LeekReadings" "LeekReadings" "change" "[I") ∈ lw_all := lw_g (lw_at lw_m2 46 rfl) rfl
theorem q423 : (Jvm.Cond.soleField "LeekReadings" "change") ∈ lw_all := lw_g (lw_at lw_m2 47 rfl) rfl
theorem q424 : (Jvm.Cond.laysFinal "LeekReadings" "LeekReadings" "orders" "[I") ∈ lw_all := lw_g (lw_at lw_m2 48 rfl) rfl
theorem q425 : (Jvm.Cond.soleField "LeekReadings" "orders") ∈ lw_all := lw_g (lw_at lw_m2 49 rfl) rfl
theorem q426 : (Jvm.Cond.laysFinal "LeekReadings" "LeekReadings" "tried" "[I") ∈ lw_all := lw_g (lw_at lw_m2 50 rfl) rfl
theorem q427 : (Jvm.Cond.soleField "LeekReadings" "tried") ∈ lw_all := lw_g (lw_at lw_m2 51 rfl) rfl
theorem q428 : (Jvm.Cond.laysFinal "LeekReadings" "LeekReadings" "best" "[I") ∈ lw_all := lw_g (lw_at lw_m2 52 rfl) rfl
theorem q429 : (Jvm.Cond.soleField "LeekReadings" "best") ∈ lw_all := lw_g (lw_at lw_m2 53 rfl) rfl
theorem q430 : (Jvm.Cond.lays "LeekReadings" "LeekReadings" "wished" "I") ∈ lw_all := lw_g (lw_at lw_m2 54 rfl) rfl
theorem q431 : (Jvm.Cond.soleField "LeekReadings" "wished") ∈ lw_all := lw_g (lw_at lw_m2 55 rfl) rfl
theorem q432 : (Jvm.Cond.lays "LeekReadings" "LeekReadings" "length" "I") ∈ lw_all := lw_g (lw_at lw_m2 56 rfl) rfl
theorem q433 : (Jvm.Cond.soleField "LeekReadings" "length") ∈ lw_all := lw_g (lw_at lw_m2 57 rfl) rfl
theorem q434 : (Jvm.Cond.lays "LeekReadings" "LeekReadings" "tallest" "I") ∈ lw_all := lw_g (lw_at lw_m2 58 rfl) rfl
theorem q435 : (Jvm.Cond.soleField "LeekReadings" "tallest") ∈ lw_all := lw_g (lw_at lw_m2 59 rfl) rfl
theorem q436 : (Jvm.Cond.lays "LeekReadings" "LeekReadings" "soonest" "I") ∈ lw_all := lw_g (lw_at lw_m2 60 rfl) rfl
theorem q437 : (Jvm.Cond.soleField "LeekReadings" "soonest") ∈ lw_all := lw_g (lw_at lw_m2 61 rfl) rfl
theorem q438 : (Jvm.Cond.lays "LeekReadings" "LeekReadings" "goal" "I") ∈ lw_all := lw_g (lw_at lw_m2 62 rfl) rfl
theorem q439 : (Jvm.Cond.soleField "LeekReadings" "goal") ∈ lw_all := lw_g (lw_at lw_m2 63 rfl) rfl
theorem q440 : (Jvm.Cond.laysFinal "LeekReadings" "LeekReadings" "alike" "[I") ∈ lw_all := lw_g (lw_at lw_m2 64 rfl) rfl
theorem q441 : (Jvm.Cond.soleField "LeekReadings" "alike") ∈ lw_all := lw_g (lw_at lw_m2 65 rfl) rfl
theorem q442 : (Jvm.Cond.lays "LeekReadings" "LeekReadings" "done" "I") ∈ lw_all := lw_g (lw_at lw_m2 66 rfl) rfl
theorem q443 : (Jvm.Cond.soleField "LeekReadings" "done") ∈ lw_all := lw_g (lw_at lw_m2 67 rfl) rfl
theorem q444 : (Jvm.Cond.lays "LeekReadings" "LeekReadings" "latest" "I") ∈ lw_all := lw_g (lw_at lw_m2 68 rfl) rfl
theorem q445 : (Jvm.Cond.soleField "LeekReadings" "latest") ∈ lw_all := lw_g (lw_at lw_m2 69 rfl) rfl
theorem q446 : (Jvm.Cond.laysFinal "LeekReadings" "LeekReadings" "drawn" "LLeekReadings$Books;") ∈ lw_all := lw_g (lw_at lw_m2 70 rfl) rfl
theorem q447 : (Jvm.Cond.soleField "LeekReadings" "drawn") ∈ lw_all := lw_g (lw_at lw_m2 71 rfl) rfl
theorem q448 : (Jvm.Cond.lays "LeekReadings" "LeekReadings" "drawnBooks" "I") ∈ lw_all := lw_g (lw_at lw_m2 72 rfl) rfl
theorem q449 : (Jvm.Cond.soleField "LeekReadings" "drawnBooks") ∈ lw_all := lw_g (lw_at lw_m2 73 rfl) rfl
theorem q450 : (Jvm.Cond.lays "LeekReadings" "LeekReadings" "drawnLeeks" "I") ∈ lw_all := lw_g (lw_at lw_m2 74 rfl) rfl
theorem q451 : (Jvm.Cond.soleField "LeekReadings" "drawnLeeks") ∈ lw_all := lw_g (lw_at lw_m2 75 rfl) rfl
theorem q452 : (Jvm.Cond.superclass "LeekReadings" "java/lang/Object") ∈ lw_all := lw_g (lw_at lw_m2 76 rfl) rfl
theorem q455 : (Jvm.Cond.instanceMethod ({ cls := "LeekReadings", name := "feed", desc := "(IIIII)I" } : Jvm.MethodName)) ∈ lw_all := lw_g (lw_at lw_m2 79 rfl) rfl
theorem q456 : (Jvm.Cond.selects "LeekReadings" ({ cls := "LeekReadings", name := "feed", desc := "(IIIII)I" } : Jvm.MethodName) ({ cls := "LeekReadings", name := "feed", desc := "(IIIII)I" } : Jvm.MethodName)) ∈ lw_all := lw_g (lw_at lw_m2 80 rfl) rfl
theorem q457 : (Jvm.Cond.code ({ cls := "LeekReadings", name := "feed", desc := "(IIIII)I" } : Jvm.MethodName) prog_1_method_15_code (6 : Nat) (Option.some Jvm.ClassFile.FieldType.int)) ∈ lw_all := lw_g (lw_at lw_m2 81 rfl) rfl
theorem q458 : (Jvm.Cond.methodLink "LeekReadings" (151 : Nat) ({ cls := "LeekReadings", name := "four", desc := "(I)V" } : Jvm.MethodName)) ∈ lw_all := lw_g (lw_at lw_m2 82 rfl) rfl
theorem q459 : (Jvm.Cond.privateMethod ({ cls := "LeekReadings", name := "four", desc := "(I)V" } : Jvm.MethodName)) ∈ lw_tbl := lw_at lw_m2 83 rfl
theorem q460 : (Jvm.Cond.instanceMethod ({ cls := "LeekReadings", name := "four", desc := "(I)V" } : Jvm.MethodName)) ∈ lw_all := lw_g (lw_at lw_m2 84 rfl) rfl
theorem q461 : (Jvm.Cond.code ({ cls := "LeekReadings", name := "four", desc := "(I)V" } : Jvm.MethodName) prog_1_method_14_code (3 : Nat) (Option.none : Option Jvm.ClassFile.FieldType)) ∈ lw_all := lw_g (lw_at lw_m2 85 rfl) rfl
theorem q463 : (Jvm.Cond.instanceMethod ({ cls := "LeekReadings", name := "end", desc := "(I)I" } : Jvm.MethodName)) ∈ lw_all := lw_g (lw_at lw_m2 87 rfl) rfl
theorem q464 : (Jvm.Cond.selects "LeekReadings" ({ cls := "LeekReadings", name := "end", desc := "(I)I" } : Jvm.MethodName) ({ cls := "LeekReadings", name := "end", desc := "(I)I" } : Jvm.MethodName)) ∈ lw_all := lw_g (lw_at lw_m2 88 rfl) rfl
theorem q465 : (Jvm.Cond.code ({ cls := "LeekReadings", name := "end", desc := "(I)I" } : Jvm.MethodName) prog_1_method_16_code (2 : Nat) (Option.some Jvm.ClassFile.FieldType.int)) ∈ lw_all := lw_g (lw_at lw_m2 89 rfl) rfl
theorem q466 : (Jvm.Cond.methodLink "LeekReadings" (128 : Nat) ({ cls := "LeekReadings", name := "in", desc := "(JJJ)Z" } : Jvm.MethodName)) ∈ lw_all := lw_g (lw_at lw_m2 90 rfl) rfl
theorem q467 : (Jvm.Cond.static ({ cls := "LeekReadings", name := "in", desc := "(JJJ)Z" } : Jvm.MethodName)) ∈ lw_all := lw_g (lw_at lw_m2 91 rfl) rfl
theorem q468 : (Jvm.Cond.code ({ cls := "LeekReadings", name := "in", desc := "(JJJ)Z" } : Jvm.MethodName) prog_1_method_1_code (6 : Nat) (Option.some Jvm.ClassFile.FieldType.boolean)) ∈ lw_all := lw_g (lw_at lw_m2 92 rfl) rfl
theorem q470 : (Jvm.Cond.instanceMethod ({ cls := "LeekReadings", name := "book", desc := "(II)I" } : Jvm.MethodName)) ∈ lw_all := lw_g (lw_at lw_m2 94 rfl) rfl
theorem q471 : (Jvm.Cond.selects "LeekReadings" ({ cls := "LeekReadings", name := "book", desc := "(II)I" } : Jvm.MethodName) ({ cls := "LeekReadings", name := "book", desc := "(II)I" } : Jvm.MethodName)) ∈ lw_all := lw_g (lw_at lw_m2 95 rfl) rfl
theorem q472 : (Jvm.Cond.code ({ cls := "LeekReadings", name := "book", desc := "(II)I" } : Jvm.MethodName) prog_1_method_20_code (3 : Nat) (Option.some Jvm.ClassFile.FieldType.int)) ∈ lw_all := lw_g (lw_at lw_m2 96 rfl) rfl
theorem q473 : (Jvm.Cond.methodLink "LeekReadings" (165 : Nat) ({ cls := "LeekReadings", name := "come", desc := "(III)I" } : Jvm.MethodName)) ∈ lw_all := lw_g (lw_at lw_m2 97 rfl) rfl
theorem q474 : (Jvm.Cond.privateMethod ({ cls := "LeekReadings", name := "come", desc := "(III)I" } : Jvm.MethodName)) ∈ lw_tbl := lw_at lw_m2 98 rfl
theorem q475 : (Jvm.Cond.instanceMethod ({ cls := "LeekReadings", name := "come", desc := "(III)I" } : Jvm.MethodName)) ∈ lw_all := lw_g (lw_at lw_m2 99 rfl) rfl
theorem q476 : (Jvm.Cond.code ({ cls := "LeekReadings", name := "come", desc := "(III)I" } : Jvm.MethodName) prog_1_method_19_code (5 : Nat) (Option.some Jvm.ClassFile.FieldType.int)) ∈ lw_all := lw_g (lw_at lw_m2 100 rfl) rfl
theorem q477 : (Jvm.Cond.constantLong "LeekReadings" (155 : Nat) (9 : Int64)) ∈ lw_all := lw_g (lw_at lw_m2 101 rfl) rfl
theorem q478 : (Jvm.Cond.constantLong "LeekReadings" (157 : Nat) (3 : Int64)) ∈ lw_all := lw_g (lw_at lw_m2 102 rfl) rfl
theorem q479 : (Jvm.Cond.methodLink "LeekReadings" (125 : Nat) ({ cls := "LeekReadings", name := "nBooks", desc := "()I" } : Jvm.MethodName)) ∈ lw_all := lw_g (lw_at lw_m2 103 rfl) rfl
theorem q480 : (Jvm.Cond.privateMethod ({ cls := "LeekReadings", name := "nBooks", desc := "()I" } : Jvm.MethodName)) ∈ lw_tbl := lw_at lw_m2 104 rfl
theorem q481 : (Jvm.Cond.instanceMethod ({ cls := "LeekReadings", name := "nBooks", desc := "()I" } : Jvm.MethodName)) ∈ lw_all := lw_g (lw_at lw_m2 105 rfl) rfl
theorem q482 : (Jvm.Cond.code ({ cls := "LeekReadings", name := "nBooks", desc := "()I" } : Jvm.MethodName) prog_1_method_8_code (1 : Nat) (Option.some Jvm.ClassFile.FieldType.int)) ∈ lw_all := lw_g (lw_at lw_m2 106 rfl) rfl
theorem q483 : (Jvm.Cond.methodLink "LeekReadings" (135 : Nat) ({ cls := "LeekReadings", name := "books", desc := "()LLeekReadings$Books;" } : Jvm.MethodName)) ∈ lw_all := lw_g (lw_at lw_m2 107 rfl) rfl
theorem q484 : (Jvm.Cond.privateMethod ({ cls := "LeekReadings", name := "books", desc := "()LLeekReadings$Books;" } : Jvm.MethodName)) ∈ lw_tbl := lw_at lw_m2 108 rfl
theorem q485 : (Jvm.Cond.instanceMethod ({ cls := "LeekReadings", name := "books", desc := "()LLeekReadings$Books;" } : Jvm.MethodName)) ∈ lw_all := lw_g (lw_at lw_m2 109 rfl) rfl
theorem q486 : (Jvm.Cond.code ({ cls := "LeekReadings", name := "books", desc := "()LLeekReadings$Books;" } : Jvm.MethodName) prog_1_method_7_code (1 : Nat) (Option.some (Jvm.ClassFile.FieldType.object "LeekReadings$Books"))) ∈ lw_all := lw_g (lw_at lw_m2 110 rfl) rfl
theorem q487 : (Jvm.Cond.methodLink "LeekReadings" (169 : Nat) ({ cls := "LeekReadings", name := "settled", desc := "(I)I" } : Jvm.MethodName)) ∈ lw_all := lw_g (lw_at lw_m2 111 rfl) rfl
theorem q488 : (Jvm.Cond.privateMethod ({ cls := "LeekReadings", name := "settled", desc := "(I)I" } : Jvm.MethodName)) ∈ lw_tbl := lw_at lw_m2 112 rfl
theorem q489 : (Jvm.Cond.instanceMethod ({ cls := "LeekReadings", name := "settled", desc := "(I)I" } : Jvm.MethodName)) ∈ lw_all := lw_g (lw_at lw_m2 113 rfl) rfl
theorem q490 : (Jvm.Cond.code ({ cls := "LeekReadings", name := "settled", desc := "(I)I" } : Jvm.MethodName) prog_1_method_5_code (2 : Nat) (Option.some Jvm.ClassFile.FieldType.int)) ∈ lw_all := lw_g (lw_at lw_m2 114 rfl) rfl
theorem q491 : (Jvm.Cond.methodLink "LeekReadings" (112 : Nat) ({ cls := "LeekReadings", name := "tell", desc := "(I)I" } : Jvm.MethodName)) ∈ lw_all := lw_g (lw_at lw_m2 115 rfl) rfl
theorem q492 : (Jvm.Cond.privateMethod ({ cls := "LeekReadings", name := "tell", desc := "(I)I" } : Jvm.MethodName)) ∈ lw_tbl := lw_at lw_m2 116 rfl
theorem q493 : (Jvm.Cond.instanceMethod ({ cls := "LeekReadings", name := "tell", desc := "(I)I" } : Jvm.MethodName)) ∈ lw_all := lw_g (lw_at lw_m2 117 rfl) rfl
theorem q494 : (Jvm.Cond.code ({ cls := "LeekReadings", name := "tell", desc := "(I)I" } : Jvm.MethodName) prog_1_method_4_code (2 : Nat) (Option.some Jvm.ClassFile.FieldType.int)) ∈ lw_all := lw_g (lw_at lw_m2 118 rfl) rfl
theorem q495 : (Jvm.Cond.methodLink "LeekReadings" (100 : Nat) ({ cls := "java/lang/Math", name := "min", desc := "(II)I" } : Jvm.MethodName)) ∈ lw_all := lw_g (lw_at lw_m2 119 rfl) rfl
theorem q499 : (Jvm.Cond.instanceMethod ({ cls := "LeekReadings", name := "need", desc := "(III)I" } : Jvm.MethodName)) ∈ lw_all := lw_g (lw_at lw_m2 123 rfl) rfl
theorem q500 : (Jvm.Cond.selects "LeekReadings" ({ cls := "LeekReadings", name := "need", desc := "(III)I" } : Jvm.MethodName) ({ cls := "LeekReadings", name := "need", desc := "(III)I" } : Jvm.MethodName)) ∈ lw_all := lw_g (lw_at lw_m2 124 rfl) rfl
theorem q501 : (Jvm.Cond.code ({ cls := "LeekReadings", name := "need", desc := "(III)I" } : Jvm.MethodName) prog_1_method_21_code (5 : Nat) (Option.some Jvm.ClassFile.FieldType.int)) ∈ lw_all := lw_g (lw_at lw_m2 125 rfl) rfl
theorem q502 : (Jvm.Cond.methodLink "LeekReadings" (172 : Nat) ({ cls := "LeekReadings", name := "isBook", desc := "(I)Z" } : Jvm.MethodName)) ∈ lw_all := lw_g (lw_at lw_m2 126 rfl) rfl
theorem q503 : (Jvm.Cond.privateMethod ({ cls := "LeekReadings", name := "isBook", desc := "(I)Z" } : Jvm.MethodName)) ∈ lw_tbl := lw_at lw_m2 127 rfl
theorem q504 : (Jvm.Cond.instanceMethod ({ cls := "LeekReadings", name := "isBook", desc := "(I)Z" } : Jvm.MethodName)) ∈ lw_all := lw_g (lw_at lw_m2 128 rfl) rfl
theorem q505 : (Jvm.Cond.code ({ cls := "LeekReadings", name := "isBook", desc := "(I)Z" } : Jvm.MethodName) prog_1_method_10_code (2 : Nat) (Option.some Jvm.ClassFile.FieldType.boolean)) ∈ lw_all := lw_g (lw_at lw_m2 129 rfl) rfl
theorem q507 : (Jvm.Cond.instanceMethod ({ cls := "LeekReadings", name := "of", desc := "(II)I" } : Jvm.MethodName)) ∈ lw_all := lw_g (lw_at lw_m2 131 rfl) rfl
theorem q508 : (Jvm.Cond.selects "LeekReadings" ({ cls := "LeekReadings", name := "of", desc := "(II)I" } : Jvm.MethodName) ({ cls := "LeekReadings", name := "of", desc := "(II)I" } : Jvm.MethodName)) ∈ lw_all := lw_g (lw_at lw_m2 132 rfl) rfl
theorem q509 : (Jvm.Cond.code ({ cls := "LeekReadings", name := "of", desc := "(II)I" } : Jvm.MethodName) prog_1_method_22_code (3 : Nat) (Option.some Jvm.ClassFile.FieldType.int)) ∈ lw_all := lw_g (lw_at lw_m2 133 rfl) rfl
theorem q510 : (Jvm.Cond.methodLink "LeekReadings" (176 : Nat) ({ cls := "LeekReadings", name := "isRead", desc := "(I)Z" } : Jvm.MethodName)) ∈ lw_all := lw_g (lw_at lw_m2 134 rfl) rfl
theorem q511 : (Jvm.Cond.privateMethod ({ cls := "LeekReadings", name := "isRead", desc := "(I)Z" } : Jvm.MethodName)) ∈ lw_tbl := lw_at lw_m2 135 rfl
theorem q512 : (Jvm.Cond.instanceMethod ({ cls := "LeekReadings", name := "isRead", desc := "(I)Z" } : Jvm.MethodName)) ∈ lw_all := lw_g (lw_at lw_m2 136 rfl) rfl
theorem q513 : (Jvm.Cond.code ({ cls := "LeekReadings", name := "isRead", desc := "(I)Z" } : Jvm.MethodName) prog_1_method_12_code (2 : Nat) (Option.some Jvm.ClassFile.FieldType.boolean)) ∈ lw_all := lw_g (lw_at lw_m2 137 rfl) rfl
theorem q514 : (Jvm.Cond.methodLink "LeekReadings" (141 : Nat) ({ cls := "LeekReadings", name := "has", desc := "(II)Z" } : Jvm.MethodName)) ∈ lw_all := lw_g (lw_at lw_m2 138 rfl) rfl
theorem q515 : (Jvm.Cond.static ({ cls := "LeekReadings", name := "has", desc := "(II)Z" } : Jvm.MethodName)) ∈ lw_all := lw_g (lw_at lw_m2 139 rfl) rfl
theorem q516 : (Jvm.Cond.code ({ cls := "LeekReadings", name := "has", desc := "(II)Z" } : Jvm.MethodName) prog_1_method_2_code (2 : Nat) (Option.some Jvm.ClassFile.FieldType.boolean)) ∈ lw_all := lw_g (lw_at lw_m2 140 rfl) rfl
theorem q517 : (Jvm.Cond.methodLink "LeekReadings" (179 : Nat) ({ cls := "LeekReadings", name := "isOpen", desc := "(II)Z" } : Jvm.MethodName)) ∈ lw_all := lw_g (lw_at lw_m2 141 rfl) rfl
theorem q518 : (Jvm.Cond.privateMethod ({ cls := "LeekReadings", name := "isOpen", desc := "(II)Z" } : Jvm.MethodName)) ∈ lw_tbl := lw_at lw_m2 142 rfl
theorem q519 : (Jvm.Cond.instanceMethod ({ cls := "LeekReadings", name := "isOpen", desc := "(II)Z" } : Jvm.MethodName)) ∈ lw_all := lw_g (lw_at lw_m2 143 rfl) rfl
theorem q520 : (Jvm.Cond.code ({ cls := "LeekReadings", name := "isOpen", desc := "(II)Z" } : Jvm.MethodName) prog_1_method_13_code (3 : Nat) (Option.some Jvm.ClassFile.FieldType.boolean)) ∈ lw_all := lw_g (lw_at lw_m2 144 rfl) rfl
theorem q521 : (Jvm.Cond.methodLink "LeekReadings" (182 : Nat) ({ cls := "LeekReadings", name := "isBarred", desc := "(I)Z" } : Jvm.MethodName)) ∈ lw_all := lw_g (lw_at lw_m2 145 rfl) rfl
theorem q522 : (Jvm.Cond.privateMethod ({ cls := "LeekReadings", name := "isBarred", desc := "(I)Z" } : Jvm.MethodName)) ∈ lw_tbl := lw_at lw_m2 146 rfl
theorem q523 : (Jvm.Cond.instanceMethod ({ cls := "LeekReadings", name := "isBarred", desc := "(I)Z" } : Jvm.MethodName)) ∈ lw_all := lw_g (lw_at lw_m2 147 rfl) rfl
theorem q524 : (Jvm.Cond.code ({ cls := "LeekReadings", name := "isBarred", desc := "(I)Z" } : Jvm.MethodName) prog_1_method_39_code (2 : Nat) (Option.some Jvm.ClassFile.FieldType.boolean)) ∈ lw_all := lw_g (lw_at lw_m2 148 rfl) rfl
theorem q525 : (Jvm.Cond.methodLink "LeekReadings" (282 : Nat) ({ cls := "LeekReadings", name := "about", desc := "(II)V" } : Jvm.MethodName)) ∈ lw_all := lw_g (lw_at lw_m2 149 rfl) rfl
theorem q526 : (Jvm.Cond.privateMethod ({ cls := "LeekReadings", name := "about", desc := "(II)V" } : Jvm.MethodName)) ∈ lw_tbl := lw_at lw_m2 150 rfl
theorem q527 : (Jvm.Cond.instanceMethod ({ cls := "LeekReadings", name := "about", desc := "(II)V" } : Jvm.MethodName)) ∈ lw_all := lw_g (lw_at lw_m2 151 rfl) rfl
theorem q528 : (Jvm.Cond.code ({ cls := "LeekReadings", name := "about", desc := "(II)V" } : Jvm.MethodName) prog_1_method_36_code (3 : Nat) (Option.none : Option Jvm.ClassFile.FieldType)) ∈ lw_all := lw_g (lw_at lw_m2 152 rfl) rfl
theorem q529 : (Jvm.Cond.constantLong "LeekReadings" (275 : Nat) (-1 : Int64)) ∈ lw_all := lw_g (lw_at lw_m2 153 rfl) rfl
theorem q530 : (Jvm.Cond.methodLink "LeekReadings" (277 : Nat) ({ cls := "java/lang/Integer", name := "bitCount", desc := "(I)I" } : Jvm.MethodName)) ∈ lw_all := lw_g (lw_at lw_m2 154 rfl) rfl
theorem q536 : (Jvm.Cond.methodLink "LeekReadings" (286 : Nat) ({ cls := "LeekReadings", name := "law1", desc := "()LLeekReadings$Text;" } : Jvm.MethodName)) ∈ lw_all := lw_g (lw_at lw_m2 160 rfl) rfl
theorem q537 : (Jvm.Cond.privateMethod ({ cls := "LeekReadings", name := "law1", desc := "()LLeekReadings$Text;" } : Jvm.MethodName)) ∈ lw_tbl := lw_at lw_m2 161 rfl
theorem q538 : (Jvm.Cond.instanceMethod ({ cls := "LeekReadings", name := "law1", desc := "()LLeekReadings$Text;" } : Jvm.MethodName)) ∈ lw_all := lw_g (lw_at lw_m2 162 rfl) rfl
theorem q539 : (Jvm.Cond.code ({ cls := "LeekReadings", name := "law1", desc := "()LLeekReadings$Text;" } : Jvm.MethodName) prog_1_method_35_code (1 : Nat) (Option.some (Jvm.ClassFile.FieldType.object "LeekReadings$Text"))) ∈ lw_all := lw_g (lw_at lw_m2 163 rfl) rfl
theorem q540 : (Jvm.Cond.methodLink "LeekReadings" (267 : Nat) ({ cls := "java/util/ArrayList", name := "get", desc := "(I)Ljava/lang/Object;" } : Jvm.MethodName)) ∈ lw_all := lw_g (lw_at lw_m2 164 rfl) rfl
theorem q554 : (Jvm.Cond.methodLink "LeekReadings" (293 : Nat) ({ cls := "LeekReadings$Text", name := "has", desc := "(ILLeekReadings$Asked;)Z" } : Jvm.MethodName)) ∈ lw_all := lw_g (lw_at lw_m2 178 rfl) rfl
theorem q581 : (Jvm.Cond.privateMethod ({ cls := "LeekReadings", name := "isLeek", desc := "(I)Z" } : Jvm.MethodName)) ∈ lw_tbl := lw_at lw_m2 205 rfl
theorem q582 : (Jvm.Cond.instanceMethod ({ cls := "LeekReadings", name := "isLeek", desc := "(I)Z" } : Jvm.MethodName)) ∈ lw_all := lw_g (lw_at lw_m2 206 rfl) rfl
theorem q583 : (Jvm.Cond.code ({ cls := "LeekReadings", name := "isLeek", desc := "(I)Z" } : Jvm.MethodName) prog_1_method_11_code (2 : Nat) (Option.some Jvm.ClassFile.FieldType.boolean)) ∈ lw_all := lw_g (lw_at lw_m2 207 rfl) rfl
theorem q584 : (Jvm.Cond.methodLink "LeekReadings" (132 : Nat) ({ cls := "LeekReadings", name := "nLeeks", desc := "()I" } : Jvm.MethodName)) ∈ lw_all := lw_g (lw_at lw_m2 208 rfl) rfl
theorem q585 : (Jvm.Cond.privateMethod ({ cls := "LeekReadings", name := "nLeeks", desc := "()I" } : Jvm.MethodName)) ∈ lw_tbl := lw_at lw_m2 209 rfl
theorem q586 : (Jvm.Cond.instanceMethod ({ cls := "LeekReadings", name := "nLeeks", desc := "()I" } : Jvm.MethodName)) ∈ lw_all := lw_g (lw_at lw_m2 210 rfl) rfl
theorem q587 : (Jvm.Cond.code ({ cls := "LeekReadings", name := "nLeeks", desc := "()I" } : Jvm.MethodName) prog_1_method_9_code (1 : Nat) (Option.some Jvm.ClassFile.FieldType.int)) ∈ lw_all := lw_g (lw_at lw_m2 211 rfl) rfl
theorem q612 : (Jvm.Cond.instanceMethod ({ cls := "LeekReadings", name := "leek", desc := "(I)I" } : Jvm.MethodName)) ∈ lw_all := lw_g (lw_at lw_m2 236 rfl) rfl
theorem q613 : (Jvm.Cond.selects "LeekReadings" ({ cls := "LeekReadings", name := "leek", desc := "(I)I" } : Jvm.MethodName) ({ cls := "LeekReadings", name := "leek", desc := "(I)I" } : Jvm.MethodName)) ∈ lw_all := lw_g (lw_at lw_m2 237 rfl) rfl
theorem q614 : (Jvm.Cond.code ({ cls := "LeekReadings", name := "leek", desc := "(I)I" } : Jvm.MethodName) prog_1_method_23_code (3 : Nat) (Option.some Jvm.ClassFile.FieldType.int)) ∈ lw_all := lw_g (lw_at lw_m2 238 rfl) rfl
theorem q616 : (Jvm.Cond.instanceMethod ({ cls := "LeekReadings", name := "at", desc := "(II)I" } : Jvm.MethodName)) ∈ lw_all := lw_g (lw_at lw_m3 0 rfl) rfl
theorem q617 : (Jvm.Cond.selects "LeekReadings" ({ cls := "LeekReadings", name := "at", desc := "(II)I" } : Jvm.MethodName) ({ cls := "LeekReadings", name := "at", desc := "(II)I" } : Jvm.MethodName)) ∈ lw_all := lw_g (lw_at lw_m3 1 rfl) rfl
theorem q618 : (Jvm.Cond.code ({ cls := "LeekReadings", name := "at", desc := "(II)I" } : Jvm.MethodName) prog_1_method_24_code (3 : Nat) (Option.some Jvm.ClassFile.FieldType.int)) ∈ lw_all := lw_g (lw_at lw_m3 2 rfl) rfl
theorem q619 : (Jvm.Cond.methodLink "LeekReadings" (191 : Nat) ({ cls := "LeekReadings", name := "isLeek", desc := "(I)Z" } : Jvm.MethodName)) ∈ lw_all := lw_g (lw_at lw_m3 3 rfl) rfl
theorem q620 : (Jvm.Cond.methodLink "LeekReadings" (194 : Nat) ({ cls := "LeekReadings", name := "wilts", desc := "(I)I" } : Jvm.MethodName)) ∈ lw_all := lw_g (lw_at lw_m3 4 rfl) rfl
theorem q621 : (Jvm.Cond.privateMethod ({ cls := "LeekReadings", name := "wilts", desc := "(I)I" } : Jvm.MethodName)) ∈ lw_tbl := lw_at lw_m3 5 rfl
theorem q622 : (Jvm.Cond.instanceMethod ({ cls := "LeekReadings", name := "wilts", desc := "(I)I" } : Jvm.MethodName)) ∈ lw_all := lw_g (lw_at lw_m3 6 rfl) rfl
theorem q623 : (Jvm.Cond.code ({ cls := "LeekReadings", name := "wilts", desc := "(I)I" } : Jvm.MethodName) prog_1_method_38_code (2 : Nat) (Option.some Jvm.ClassFile.FieldType.int)) ∈ lw_all := lw_g (lw_at lw_m3 7 rfl) rfl
theorem q624 : (Jvm.Cond.methodLink "LeekReadings" (289 : Nat) ({ cls := "LeekReadings$Text", name := "tells", desc := "(ILLeekReadings$Asked;II)I" } : Jvm.MethodName)) ∈ lw_all := lw_g (lw_at lw_m3 8 rfl) rfl
theorem q634 : (Jvm.Cond.methodLink "LeekReadings" (197 : Nat) ({ cls := "LeekReadings", name := "grows", desc := "(II)I" } : Jvm.MethodName)) ∈ lw_all := lw_g (lw_at lw_m3 18 rfl) rfl
theorem q635 : (Jvm.Cond.privateMethod ({ cls := "LeekReadings", name := "grows", desc := "(II)I" } : Jvm.MethodName)) ∈ lw_tbl := lw_at lw_m3 19 rfl
theorem q636 : (Jvm.Cond.instanceMethod ({ cls := "LeekReadings", name := "grows", desc := "(II)I" } : Jvm.MethodName)) ∈ lw_all := lw_g (lw_at lw_m3 20 rfl) rfl
theorem q637 : (Jvm.Cond.code ({ cls := "LeekReadings", name := "grows", desc := "(II)I" } : Jvm.MethodName) prog_1_method_37_code (3 : Nat) (Option.some Jvm.ClassFile.FieldType.int)) ∈ lw_all := lw_g (lw_at lw_m3 21 rfl) rfl
theorem q639 : (Jvm.Cond.instanceMethod ({ cls := "LeekReadings", name := "terms", desc := "(II)I" } : Jvm.MethodName)) ∈ lw_all := lw_g (lw_at lw_m3 23 rfl) rfl
theorem q640 : (Jvm.Cond.selects "LeekReadings" ({ cls := "LeekReadings", name := "terms", desc := "(II)I" } : Jvm.MethodName) ({ cls := "LeekReadings", name := "terms", desc := "(II)I" } : Jvm.MethodName)) ∈ lw_all := lw_g (lw_at lw_m3 24 rfl) rfl
theorem q641 : (Jvm.Cond.code ({ cls := "LeekReadings", name := "terms", desc := "(II)I" } : Jvm.MethodName) prog_1_method_27_code (4 : Nat) (Option.some Jvm.ClassFile.FieldType.int)) ∈ lw_all := lw_g (lw_at lw_m3 25 rfl) rfl
theorem q642 : (Jvm.Cond.methodLink "LeekReadings" (210 : Nat) ({ cls := "LeekReadings", name := "isTerm", desc := "(II)Z" } : Jvm.MethodName)) ∈ lw_all := lw_g (lw_at lw_m3 26 rfl) rfl
theorem q643 : (Jvm.Cond.static ({ cls := "LeekReadings", name := "isTerm", desc := "(II)Z" } : Jvm.MethodName)) ∈ lw_all := lw_g (lw_at lw_m3 27 rfl) rfl
theorem q644 : (Jvm.Cond.code ({ cls := "LeekReadings", name := "isTerm", desc := "(II)Z" } : Jvm.MethodName) prog_1_method_25_code (2 : Nat) (Option.some Jvm.ClassFile.FieldType.boolean)) ∈ lw_all := lw_g (lw_at lw_m3 28 rfl) rfl
theorem q645 : (Jvm.Cond.constantLong "LeekReadings" (200 : Nat) (999 : Int64)) ∈ lw_all := lw_g (lw_at lw_m3 29 rfl) rfl
theorem q646 : (Jvm.Cond.constantLong "LeekReadings" (202 : Nat) (10 : Int64)) ∈ lw_all := lw_g (lw_at lw_m3 30 rfl) rfl
theorem q647 : (Jvm.Cond.methodLink "LeekReadings" (213 : Nat) ({ cls := "LeekReadings", name := "term", desc := "(I)I" } : Jvm.MethodName)) ∈ lw_all := lw_g (lw_at lw_m3 31 rfl) rfl
theorem q648 : (Jvm.Cond.privateMethod ({ cls := "LeekReadings", name := "term", desc := "(I)I" } : Jvm.MethodName)) ∈ lw_tbl := lw_at lw_m3 32 rfl
theorem q649 : (Jvm.Cond.instanceMethod ({ cls := "LeekReadings", name := "term", desc := "(I)I" } : Jvm.MethodName)) ∈ lw_all := lw_g (lw_at lw_m3 33 rfl) rfl
theorem q650 : (Jvm.Cond.code ({ cls := "LeekReadings", name := "term", desc := "(I)I" } : Jvm.MethodName) prog_1_method_26_code (2 : Nat) (Option.some Jvm.ClassFile.FieldType.int)) ∈ lw_all := lw_g (lw_at lw_m3 34 rfl) rfl
theorem q651 : (Jvm.Cond.methodLink "LeekReadings" (216 : Nat) ({ cls := "LeekReadings", name := "had", desc := "(I)I" } : Jvm.MethodName)) ∈ lw_all := lw_g (lw_at lw_m3 35 rfl) rfl
theorem q652 : (Jvm.Cond.privateMethod ({ cls := "LeekReadings", name := "had", desc := "(I)I" } : Jvm.MethodName)) ∈ lw_tbl := lw_at lw_m3 36 rfl
theorem q653 : (Jvm.Cond.instanceMethod ({ cls := "LeekReadings", name := "had", desc := "(I)I" } : Jvm.MethodName)) ∈ lw_all := lw_g (lw_at lw_m3 37 rfl) rfl
theorem q654 : (Jvm.Cond.code ({ cls := "LeekReadings", name := "had", desc := "(I)I" } : Jvm.MethodName) prog_1_method_6_code (2 : Nat) (Option.some Jvm.ClassFile.FieldType.int)) ∈ lw_all := lw_g (lw_at lw_m3 38 rfl) rfl
theorem q656 : (Jvm.Cond.instanceMethod ({ cls := "LeekReadings", name := "row", desc := "()I" } : Jvm.MethodName)) ∈ lw_all := lw_g (lw_at lw_m3 40 rfl) rfl
theorem q657 : (Jvm.Cond.selects "LeekReadings" ({ cls := "LeekReadings", name := "row", desc := "()I" } : Jvm.MethodName) ({ cls := "LeekReadings", name := "row", desc := "()I" } : Jvm.MethodName)) ∈ lw_all := lw_g (lw_at lw_m3 41 rfl) rfl
theorem q658 : (Jvm.Cond.codeWith ({ cls := "LeekReadings", name := "row", desc := "()I" } : Jvm.MethodName) prog_1_method_29_code (7 : Nat) (Option.some Jvm.ClassFile.FieldType.int) [((58 : Nat), (91 : Nat), (126 : Nat), (232 : Nat)), ((58 : Nat), (91 : Nat), (166 : Nat), (0 : Nat)), ((126 : Nat), (131 : Nat), (166 : Nat), (0 : Nat)), ((166 : Nat), (168 : Nat), (166 : Nat), (0 : Nat))]) ∈ lw_all := lw_g (lw_at lw_m3 42 rfl) rfl
theorem q659 : (Jvm.Cond.classLink "LeekReadings" (232 : Nat) "java/lang/ArrayIndexOutOfBoundsException") ∈ lw_all := lw_g (lw_at lw_m3 43 rfl) rfl
theorem q733 : (Jvm.Cond.methodLink "LeekReadings" (219 : Nat) ({ cls := "java/lang/System", name := "arraycopy", desc := "(Ljava/lang/Object;ILjava/lang/Object;II)V" } : Jvm.MethodName)) ∈ lw_all := lw_g (lw_at lw_m3 117 rfl) rfl
theorem q736 : (Jvm.Cond.methodLink "LeekReadings" (228 : Nat) ({ cls := "LeekReadings", name := "byteAt", desc := "([BI)I" } : Jvm.MethodName)) ∈ lw_all := lw_g (lw_at lw_m3 120 rfl) rfl
theorem q737 : (Jvm.Cond.static ({ cls := "LeekReadings", name := "byteAt", desc := "([BI)I" } : Jvm.MethodName)) ∈ lw_all := lw_g (lw_at lw_m3 121 rfl) rfl
theorem q738 : (Jvm.Cond.code ({ cls := "LeekReadings", name := "byteAt", desc := "([BI)I" } : Jvm.MethodName) prog_1_method_28_code (2 : Nat) (Option.some Jvm.ClassFile.FieldType.int)) ∈ lw_all := lw_g (lw_at lw_m3 122 rfl) rfl
theorem q740 : (Jvm.Cond.instanceMethod ({ cls := "LeekReadings", name := "slugs", desc := "()I" } : Jvm.MethodName)) ∈ lw_all := lw_g (lw_at lw_m3 124 rfl) rfl
theorem q741 : (Jvm.Cond.selects "LeekReadings" ({ cls := "LeekReadings", name := "slugs", desc := "()I" } : Jvm.MethodName) ({ cls := "LeekReadings", name := "slugs", desc := "()I" } : Jvm.MethodName)) ∈ lw_all := lw_g (lw_at lw_m3 125 rfl) rfl
theorem q742 : (Jvm.Cond.code ({ cls := "LeekReadings", name := "slugs", desc := "()I" } : Jvm.MethodName) prog_1_method_30_code (1 : Nat) (Option.some Jvm.ClassFile.FieldType.int)) ∈ lw_all := lw_g (lw_at lw_m3 126 rfl) rfl
theorem q744 : (Jvm.Cond.instanceMethod ({ cls := "LeekReadings", name := "law", desc := "()I" } : Jvm.MethodName)) ∈ lw_all := lw_g (lw_at lw_m3 128 rfl) rfl
theorem q745 : (Jvm.Cond.selects "LeekReadings" ({ cls := "LeekReadings", name := "law", desc := "()I" } : Jvm.MethodName) ({ cls := "LeekReadings", name := "law", desc := "()I" } : Jvm.MethodName)) ∈ lw_all := lw_g (lw_at lw_m3 129 rfl) rfl
theorem q746 : (Jvm.Cond.codeWith ({ cls := "LeekReadings", name := "law", desc := "()I" } : Jvm.MethodName) prog_1_method_31_code (4 : Nat) (Option.some Jvm.ClassFile.FieldType.int) [((27 : Nat), (71 : Nat), (78 : Nat), (256 : Nat)), ((27 : Nat), (71 : Nat), (101 : Nat), (0 : Nat)), ((78 : Nat), (94 : Nat), (101 : Nat), (0 : Nat))]) ∈ lw_all := lw_g (lw_at lw_m3 130 rfl) rfl
theorem q747 : (Jvm.Cond.classLink "LeekReadings" (256 : Nat) "LeekReadings$Wrong") ∈ lw_all := lw_g (lw_at lw_m3 131 rfl) rfl
theorem q748 : (Jvm.Cond.methodLink "LeekReadings" (238 : Nat) ({ cls := "java/util/ArrayList", name := "size", desc := "()I" } : Jvm.MethodName)) ∈ lw_all := lw_g (lw_at lw_m3 132 rfl) rfl
theorem q752 : (Jvm.Cond.classLink "LeekReadings" (243 : Nat) "LeekReadings$LawReader") ∈ lw_all := lw_g (lw_at lw_m3 136 rfl) rfl
theorem q754 : (Jvm.Cond.methodLink "LeekReadings" (245 : Nat) ({ cls := "LeekReadings$LawReader", name := "<init>", desc := "(LLeekReadings;)V" } : Jvm.MethodName)) ∈ lw_all := lw_g (lw_at lw_m3 138 rfl) rfl
theorem q816 : (Jvm.Cond.methodLink "LeekReadings" (248 : Nat) ({ cls := "LeekReadings$LawReader", name := "read", desc := "()LLeekReadings$Text;" } : Jvm.MethodName)) ∈ lw_all := lw_g (lw_at lw_m3 200 rfl) rfl
theorem q833 : (Jvm.Cond.static ({ cls := "LeekReadings", name := "isLetter", desc := "(I)Z" } : Jvm.MethodName)) ∈ lw_all := lw_g (lw_at lw_m3 217 rfl) rfl
theorem q834 : (Jvm.Cond.code ({ cls := "LeekReadings", name := "isLetter", desc := "(I)Z" } : Jvm.MethodName) prog_1_method_17_code (1 : Nat) (Option.some Jvm.ClassFile.FieldType.boolean)) ∈ lw_all := lw_g (lw_at lw_m3 218 rfl) rfl
theorem q836 : (Jvm.Cond.static ({ cls := "LeekReadings", name := "isDigit", desc := "(I)Z" } : Jvm.MethodName)) ∈ lw_all := lw_g (lw_at lw_m3 220 rfl) rfl
theorem q837 : (Jvm.Cond.code ({ cls := "LeekReadings", name := "isDigit", desc := "(I)Z" } : Jvm.MethodName) prog_1_method_18_code (1 : Nat) (Option.some Jvm.ClassFile.FieldType.boolean)) ∈ lw_all := lw_g (lw_at lw_m3 221 rfl) rfl
theorem q863 : (Jvm.Cond.fieldLinkNest "LeekReadings" (258 : Nat) "LeekReadings$Wrong" "place" "I" "LeekReadings") ∈ lw_tbl := lw_at lw_m4 7 rfl
theorem q1179 : (Jvm.Cond.fieldLinkNest "LeekReadings" (418 : Nat) "LeekReadings$Act" "times" "I" "LeekReadings") ∈ lw_tbl := lw_at lw_m5 83 rfl
theorem q1217 : (Jvm.Cond.methodLink "LeekReadings" (252 : Nat) ({ cls := "java/util/ArrayList", name := "add", desc := "(Ljava/lang/Object;)Z" } : Jvm.MethodName)) ∈ lw_all := lw_g (lw_at lw_m5 121 rfl) rfl
theorem q1249 : (Jvm.Cond.selects "LeekReadings" ({ cls := "java/lang/Object", name := "getClass", desc := "()Ljava/lang/Class;" } : Jvm.MethodName) ({ cls := "java/lang/Object", name := "getClass", desc := "()Ljava/lang/Class;" } : Jvm.MethodName)) ∈ lw_all := lw_g (lw_at lw_m5 153 rfl) rfl
theorem q1283 : (Jvm.Cond.instanceMethod ({ cls := "LeekReadings", name := "fault", desc := "()I" } : Jvm.MethodName)) ∈ lw_all := lw_g (lw_at lw_m5 187 rfl) rfl
theorem q1284 : (Jvm.Cond.selects "LeekReadings" ({ cls := "LeekReadings", name := "fault", desc := "()I" } : Jvm.MethodName) ({ cls := "LeekReadings", name := "fault", desc := "()I" } : Jvm.MethodName)) ∈ lw_all := lw_g (lw_at lw_m5 188 rfl) rfl
theorem q1285 : (Jvm.Cond.code ({ cls := "LeekReadings", name := "fault", desc := "()I" } : Jvm.MethodName) prog_1_method_32_code (1 : Nat) (Option.some Jvm.ClassFile.FieldType.int)) ∈ lw_all := lw_g (lw_at lw_m5 189 rfl) rfl
theorem q1287 : (Jvm.Cond.instanceMethod ({ cls := "LeekReadings", name := "force", desc := "(I)I" } : Jvm.MethodName)) ∈ lw_all := lw_g (lw_at lw_m5 191 rfl) rfl
theorem q1288 : (Jvm.Cond.selects "LeekReadings" ({ cls := "LeekReadings", name := "force", desc := "(I)I" } : Jvm.MethodName) ({ cls := "LeekReadings", name := "force", desc := "(I)I" } : Jvm.MethodName)) ∈ lw_all := lw_g (lw_at lw_m5 192 rfl) rfl
theorem q1289 : (Jvm.Cond.code ({ cls := "LeekReadings", name := "force", desc := "(I)I" } : Jvm.MethodName) prog_1_method_34_code (3 : Nat) (Option.some Jvm.ClassFile.FieldType.int)) ∈ lw_all := lw_g (lw_at lw_m5 193 rfl) rfl
theorem q1290 : (Jvm.Cond.methodLink "LeekReadings" (261 : Nat) ({ cls := "LeekReadings", name := "isLaw", desc := "(I)Z" } : Jvm.MethodName)) ∈ lw_all := lw_g (lw_at lw_m5 194 rfl) rfl
theorem q1291 : (Jvm.Cond.privateMethod ({ cls := "LeekReadings", name := "isLaw", desc := "(I)Z" } : Jvm.MethodName)) ∈ lw_tbl := lw_at lw_m5 195 rfl
theorem q1292 : (Jvm.Cond.instanceMethod ({ cls := "LeekReadings", name := "isLaw", desc := "(I)Z" } : Jvm.MethodName)) ∈ lw_all := lw_g (lw_at lw_m5 196 rfl) rfl
theorem q1293 : (Jvm.Cond.code ({ cls := "LeekReadings", name := "isLaw", desc := "(I)Z" } : Jvm.MethodName) prog_1_method_33_code (2 : Nat) (Option.some Jvm.ClassFile.FieldType.boolean)) ∈ lw_all := lw_g (lw_at lw_m5 197 rfl) rfl
theorem q1295 : (Jvm.Cond.instanceMethod ({ cls := "LeekReadings", name := "read", desc := "(I)I" } : Jvm.MethodName)) ∈ lw_all := lw_g (lw_at lw_m5 199 rfl) rfl
theorem q1296 : (Jvm.Cond.selects "LeekReadings" ({ cls := "LeekReadings", name := "read", desc := "(I)I" } : Jvm.MethodName) ({ cls := "LeekReadings", name := "read", desc := "(I)I" } : Jvm.MethodName)) ∈ lw_all := lw_g (lw_at lw_m5 200 rfl) rfl
theorem q1297 : (Jvm.Cond.code ({ cls := "LeekReadings", name := "read", desc := "(I)I" } : Jvm.MethodName) prog_1_method_44_code (2 : Nat) (Option.some Jvm.ClassFile.FieldType.int)) ∈ lw_all := lw_g (lw_at lw_m5 201 rfl) rfl
theorem q1298 : (Jvm.Cond.methodLink "LeekReadings" (309 : Nat) ({ cls := "LeekReadings", name := "readNow", desc := "(I)I" } : Jvm.MethodName)) ∈ lw_all := lw_g (lw_at lw_m5 202 rfl) rfl
theorem q1299 : (Jvm.Cond.privateMethod ({ cls := "LeekReadings", name := "readNow", desc := "(I)I" } : Jvm.MethodName)) ∈ lw_tbl := lw_at lw_m5 203 rfl
theorem q1300 : (Jvm.Cond.instanceMethod ({ cls := "LeekReadings", name := "readNow", desc := "(I)I" } : Jvm.MethodName)) ∈ lw_all := lw_g (lw_at lw_m5 204 rfl) rfl
theorem q1301 : (Jvm.Cond.code ({ cls := "LeekReadings", name := "readNow", desc := "(I)I" } : Jvm.MethodName) prog_1_method_43_code (2 : Nat) (Option.some Jvm.ClassFile.FieldType.int)) ∈ lw_all := lw_g (lw_at lw_m5 205 rfl) rfl
theorem q1302 : (Jvm.Cond.methodLink "LeekReadings" (296 : Nat) ({ cls := "LeekReadings", name := "canRead", desc := "(I)Z" } : Jvm.MethodName)) ∈ lw_all := lw_g (lw_at lw_m5 206 rfl) rfl
theorem q1303 : (Jvm.Cond.privateMethod ({ cls := "LeekReadings", name := "canRead", desc := "(I)Z" } : Jvm.MethodName)) ∈ lw_tbl := lw_at lw_m5 207 rfl
theorem q1304 : (Jvm.Cond.instanceMethod ({ cls := "LeekReadings", name := "canRead", desc := "(I)Z" } : Jvm.MethodName)) ∈ lw_all := lw_g (lw_at lw_m5 208 rfl) rfl
theorem q1305 : (Jvm.Cond.code ({ cls := "LeekReadings", name := "canRead", desc := "(I)Z" } : Jvm.MethodName) prog_1_method_40_code (2 : Nat) (Option.some Jvm.ClassFile.FieldType.boolean)) ∈ lw_all := lw_g (lw_at lw_m5 209 rfl) rfl
theorem q1306 : (Jvm.Cond.methodLink "LeekReadings" (299 : Nat) ({ cls := "LeekReadings", name := "isInTime", desc := "(I)Z" } : Jvm.MethodName)) ∈ lw_all := lw_g (lw_at lw_m5 210 rfl) rfl
theorem q1307 : (Jvm.Cond.privateMethod ({ cls := "LeekReadings", name := "isInTime", desc := "(I)Z" } : Jvm.MethodName)) ∈ lw_tbl := lw_at lw_m5 211 rfl
theorem q1308 : (Jvm.Cond.instanceMethod ({ cls := "LeekReadings", name := "isInTime", desc := "(I)Z" } : Jvm.MethodName)) ∈ lw_all := lw_g (lw_at lw_m5 212 rfl) rfl
theorem q1309 : (Jvm.Cond.code ({ cls := "LeekReadings", name := "isInTime", desc := "(I)Z" } : Jvm.MethodName) prog_1_method_42_code (2 : Nat) (Option.some Jvm.ClassFile.FieldType.boolean)) ∈ lw_all := lw_g (lw_at lw_m5 213 rfl) rfl
theorem q1310 : (Jvm.Cond.methodLink "LeekReadings" (302 : Nat) ({ cls := "LeekReadings$Steps", name := "append", desc := "(LLeekReadings$Books;I)V" } : Jvm.MethodName)) ∈ lw_all := lw_g (lw_at lw_m5 214 rfl) rfl
theorem q1320 : (Jvm.Cond.methodLink "LeekReadings" (306 : Nat) ({ cls := "LeekReadings", name := "readIt", desc := "(I)I" } : Jvm.MethodName)) ∈ lw_all := lw_g (lw_at lw_m5 224 rfl) rfl
theorem q1321 : (Jvm.Cond.privateMethod ({ cls := "LeekReadings", name := "readIt", desc := "(I)I" } : Jvm.MethodName)) ∈ lw_tbl := lw_at lw_m5 225 rfl
theorem q1322 : (Jvm.Cond.instanceMethod ({ cls := "LeekReadings", name := "readIt", desc := "(I)I" } : Jvm.MethodName)) ∈ lw_all := lw_g (lw_at lw_m5 226 rfl) rfl
theorem q1323 : (Jvm.Cond.code ({ cls := "LeekReadings", name := "readIt", desc := "(I)I" } : Jvm.MethodName) prog_1_method_41_code (4 : Nat) (Option.some Jvm.ClassFile.FieldType.int)) ∈ lw_all := lw_g (lw_at lw_m5 227 rfl) rfl
theorem q1325 : (Jvm.Cond.instanceMethod ({ cls := "LeekReadings", name := "lose", desc := "(I)I" } : Jvm.MethodName)) ∈ lw_all := lw_g (lw_at lw_m5 229 rfl) rfl
theorem q1326 : (Jvm.Cond.selects "LeekReadings" ({ cls := "LeekReadings", name := "lose", desc := "(I)I" } : Jvm.MethodName) ({ cls := "LeekReadings", name := "lose", desc := "(I)I" } : Jvm.MethodName)) ∈ lw_all := lw_g (lw_at lw_m5 230 rfl) rfl
theorem q1327 : (Jvm.Cond.code ({ cls := "LeekReadings", name := "lose", desc := "(I)I" } : Jvm.MethodName) prog_1_method_47_code (2 : Nat) (Option.some Jvm.ClassFile.FieldType.int)) ∈ lw_all := lw_g (lw_at lw_m5 231 rfl) rfl
theorem q1328 : (Jvm.Cond.methodLink "LeekReadings" (315 : Nat) ({ cls := "LeekReadings", name := "loseNow", desc := "(I)I" } : Jvm.MethodName)) ∈ lw_all := lw_g (lw_at lw_m5 232 rfl) rfl
theorem q1329 : (Jvm.Cond.privateMethod ({ cls := "LeekReadings", name := "loseNow", desc := "(I)I" } : Jvm.MethodName)) ∈ lw_tbl := lw_at lw_m5 233 rfl
theorem q1330 : (Jvm.Cond.instanceMethod ({ cls := "LeekReadings", name := "loseNow", desc := "(I)I" } : Jvm.MethodName)) ∈ lw_all := lw_g (lw_at lw_m5 234 rfl) rfl
theorem q1331 : (Jvm.Cond.code ({ cls := "LeekReadings", name := "loseNow", desc := "(I)I" } : Jvm.MethodName) prog_1_method_46_code (2 : Nat) (Option.some Jvm.ClassFile.FieldType.int)) ∈ lw_all := lw_g (lw_at lw_m5 235 rfl) rfl
theorem q1332 : (Jvm.Cond.methodLink "LeekReadings" (312 : Nat) ({ cls := "LeekReadings", name := "canLose", desc := "(I)Z" } : Jvm.MethodName)) ∈ lw_all := lw_g (lw_at lw_m5 236 rfl) rfl
theorem q1333 : (Jvm.Cond.privateMethod ({ cls := "LeekReadings", name := "canLose", desc := "(I)Z" } : Jvm.MethodName)) ∈ lw_tbl := lw_at lw_m5 237 rfl
theorem q1334 : (Jvm.Cond.instanceMethod ({ cls := "LeekReadings", name := "canLose", desc := "(I)Z" } : Jvm.MethodName)) ∈ lw_all := lw_g (lw_at lw_m5 238 rfl) rfl
theorem q1335 : (Jvm.Cond.code ({ cls := "LeekReadings", name := "canLose", desc := "(I)Z" } : Jvm.MethodName) prog_1_method_45_code (4 : Nat) (Option.some Jvm.ClassFile.FieldType.boolean)) ∈ lw_all := lw_g (lw_at lw_m5 239 rfl) rfl
theorem q1337 : (Jvm.Cond.instanceMethod ({ cls := "LeekReadings", name := "cut", desc := "(I)I" } : Jvm.MethodName)) ∈ lw_all := lw_g (lw_at lw_m6 1 rfl) rfl
theorem q1338 : (Jvm.Cond.selects "LeekReadings" ({ cls := "LeekReadings", name := "cut", desc := "(I)I" } : Jvm.MethodName) ({ cls := "LeekReadings", name := "cut", desc := "(I)I" } : Jvm.MethodName)) ∈ lw_all := lw_g (lw_at lw_m6 2 rfl) rfl
theorem q1339 : (Jvm.Cond.code ({ cls := "LeekReadings", name := "cut", desc := "(I)I" } : Jvm.MethodName) prog_1_method_49_code (2 : Nat) (Option.some Jvm.ClassFile.FieldType.int)) ∈ lw_all := lw_g (lw_at lw_m6 3 rfl) rfl
theorem q1340 : (Jvm.Cond.methodLink "LeekReadings" (318 : Nat) ({ cls := "LeekReadings", name := "cutNow", desc := "(I)I" } : Jvm.MethodName)) ∈ lw_all := lw_g (lw_at lw_m6 4 rfl) rfl
theorem q1341 : (Jvm.Cond.privateMethod ({ cls := "LeekReadings", name := "cutNow", desc := "(I)I" } : Jvm.MethodName)) ∈ lw_tbl := lw_at lw_m6 5 rfl
theorem q1342 : (Jvm.Cond.instanceMethod ({ cls := "LeekReadings", name := "cutNow", desc := "(I)I" } : Jvm.MethodName)) ∈ lw_all := lw_g (lw_at lw_m6 6 rfl) rfl
theorem q1343 : (Jvm.Cond.code ({ cls := "LeekReadings", name := "cutNow", desc := "(I)I" } : Jvm.MethodName) prog_1_method_48_code (3 : Nat) (Option.some Jvm.ClassFile.FieldType.int)) ∈ lw_all := lw_g (lw_at lw_m6 7 rfl) rfl
theorem q1345 : (Jvm.Cond.instanceMethod ({ cls := "LeekReadings", name := "pass", desc := "()I" } : Jvm.MethodName)) ∈ lw_all := lw_g (lw_at lw_m6 9 rfl) rfl
theorem q1346 : (Jvm.Cond.selects "LeekReadings" ({ cls := "LeekReadings", name := "pass", desc := "()I" } : Jvm.MethodName) ({ cls := "LeekReadings", name := "pass", desc := "()I" } : Jvm.MethodName)) ∈ lw_all := lw_g (lw_at lw_m6 10 rfl) rfl
theorem q1347 : (Jvm.Cond.code ({ cls := "LeekReadings", name := "pass", desc := "()I" } : Jvm.MethodName) prog_1_method_52_code (1 : Nat) (Option.some Jvm.ClassFile.FieldType.int)) ∈ lw_all := lw_g (lw_at lw_m6 11 rfl) rfl
theorem q1348 : (Jvm.Cond.methodLink "LeekReadings" (327 : Nat) ({ cls := "LeekReadings", name := "passNow", desc := "()I" } : Jvm.MethodName)) ∈ lw_all := lw_g (lw_at lw_m6 12 rfl) rfl
theorem q1349 : (Jvm.Cond.privateMethod ({ cls := "LeekReadings", name := "passNow", desc := "()I" } : Jvm.MethodName)) ∈ lw_tbl := lw_at lw_m6 13 rfl
theorem q1350 : (Jvm.Cond.instanceMethod ({ cls := "LeekReadings", name := "passNow", desc := "()I" } : Jvm.MethodName)) ∈ lw_all := lw_g (lw_at lw_m6 14 rfl) rfl
theorem q1351 : (Jvm.Cond.code ({ cls := "LeekReadings", name := "passNow", desc := "()I" } : Jvm.MethodName) prog_1_method_51_code (1 : Nat) (Option.some Jvm.ClassFile.FieldType.int)) ∈ lw_all := lw_g (lw_at lw_m6 15 rfl) rfl
theorem q1352 : (Jvm.Cond.methodLink "LeekReadings" (324 : Nat) ({ cls := "LeekReadings", name := "passIt", desc := "()I" } : Jvm.MethodName)) ∈ lw_all := lw_g (lw_at lw_m6 16 rfl) rfl
theorem q1353 : (Jvm.Cond.privateMethod ({ cls := "LeekReadings", name := "passIt", desc := "()I" } : Jvm.MethodName)) ∈ lw_tbl := lw_at lw_m6 17 rfl
theorem q1354 : (Jvm.Cond.instanceMethod ({ cls := "LeekReadings", name := "passIt", desc := "()I" } : Jvm.MethodName)) ∈ lw_all := lw_g (lw_at lw_m6 18 rfl) rfl
theorem q1355 : (Jvm.Cond.code ({ cls := "LeekReadings", name := "passIt", desc := "()I" } : Jvm.MethodName) prog_1_method_50_code (4 : Nat) (Option.some Jvm.ClassFile.FieldType.int)) ∈ lw_all := lw_g (lw_at lw_m6 19 rfl) rfl
theorem q1356 : (Jvm.Cond.methodLink "LeekReadings" (321 : Nat) ({ cls := "java/lang/Math", name := "max", desc := "(II)I" } : Jvm.MethodName)) ∈ lw_all := lw_g (lw_at lw_m6 20 rfl) rfl
theorem q1358 : (Jvm.Cond.instanceMethod ({ cls := "LeekReadings", name := "undo", desc := "()I" } : Jvm.MethodName)) ∈ lw_all := lw_g (lw_at lw_m6 22 rfl) rfl
theorem q1359 : (Jvm.Cond.selects "LeekReadings" ({ cls := "LeekReadings", name := "undo", desc := "()I" } : Jvm.MethodName) ({ cls := "LeekReadings", name := "undo", desc := "()I" } : Jvm.MethodName)) ∈ lw_all := lw_g (lw_at lw_m6 23 rfl) rfl
theorem q1360 : (Jvm.Cond.code ({ cls := "LeekReadings", name := "undo", desc := "()I" } : Jvm.MethodName) prog_1_method_53_code (1 : Nat) (Option.some Jvm.ClassFile.FieldType.int)) ∈ lw_all := lw_g (lw_at lw_m6 24 rfl) rfl
theorem q1361 : (Jvm.Cond.methodLink "LeekReadings" (334 : Nat) ({ cls := "LeekReadings$Books", name := "as", desc := "(LLeekReadings$Books;)LLeekReadings$Books;" } : Jvm.MethodName)) ∈ lw_all := lw_g (lw_at lw_m6 25 rfl) rfl
theorem q1363 : (Jvm.Cond.instanceMethod ({ cls := "LeekReadings", name := "needs", desc := "(I)I" } : Jvm.MethodName)) ∈ lw_all := lw_g (lw_at lw_m6 27 rfl) rfl
theorem q1364 : (Jvm.Cond.selects "LeekReadings" ({ cls := "LeekReadings", name := "needs", desc := "(I)I" } : Jvm.MethodName) ({ cls := "LeekReadings", name := "needs", desc := "(I)I" } : Jvm.MethodName)) ∈ lw_all := lw_g (lw_at lw_m6 28 rfl) rfl
theorem q1365 : (Jvm.Cond.code ({ cls := "LeekReadings", name := "needs", desc := "(I)I" } : Jvm.MethodName) prog_1_method_55_code (2 : Nat) (Option.some Jvm.ClassFile.FieldType.int)) ∈ lw_all := lw_g (lw_at lw_m6 29 rfl) rfl
theorem q1366 : (Jvm.Cond.methodLink "LeekReadings" (341 : Nat) ({ cls := "LeekReadings", name := "allNeeds", desc := "(I)I" } : Jvm.MethodName)) ∈ lw_all := lw_g (lw_at lw_m6 30 rfl) rfl
theorem q1367 : (Jvm.Cond.privateMethod ({ cls := "LeekReadings", name := "allNeeds", desc := "(I)I" } : Jvm.MethodName)) ∈ lw_tbl := lw_at lw_m6 31 rfl
theorem q1368 : (Jvm.Cond.instanceMethod ({ cls := "LeekReadings", name := "allNeeds", desc := "(I)I" } : Jvm.MethodName)) ∈ lw_all := lw_g (lw_at lw_m6 32 rfl) rfl
theorem q1369 : (Jvm.Cond.code ({ cls := "LeekReadings", name := "allNeeds", desc := "(I)I" } : Jvm.MethodName) prog_1_method_54_code (5 : Nat) (Option.some Jvm.ClassFile.FieldType.int)) ∈ lw_all := lw_g (lw_at lw_m6 33 rfl) rfl
theorem q1371 : (Jvm.Cond.instanceMethod ({ cls := "LeekReadings", name := "never", desc := "()I" } : Jvm.MethodName)) ∈ lw_all := lw_g (lw_at lw_m6 35 rfl) rfl
theorem q1372 : (Jvm.Cond.selects "LeekReadings" ({ cls := "LeekReadings", name := "never", desc := "()I" } : Jvm.MethodName) ({ cls := "LeekReadings", name := "never", desc := "()I" } : Jvm.MethodName)) ∈ lw_all := lw_g (lw_at lw_m6 36 rfl) rfl
theorem q1373 : (Jvm.Cond.code ({ cls := "LeekReadings", name := "never", desc := "()I" } : Jvm.MethodName) prog_1_method_58_code (1 : Nat) (Option.some Jvm.ClassFile.FieldType.int)) ∈ lw_all := lw_g (lw_at lw_m6 37 rfl) rfl
theorem q1374 : (Jvm.Cond.methodLink "LeekReadings" (344 : Nat) ({ cls := "LeekReadings", name := "all", desc := "()I" } : Jvm.MethodName)) ∈ lw_all := lw_g (lw_at lw_m6 38 rfl) rfl
theorem q1375 : (Jvm.Cond.privateMethod ({ cls := "LeekReadings", name := "all", desc := "()I" } : Jvm.MethodName)) ∈ lw_tbl := lw_at lw_m6 39 rfl
theorem q1376 : (Jvm.Cond.instanceMethod ({ cls := "LeekReadings", name := "all", desc := "()I" } : Jvm.MethodName)) ∈ lw_all := lw_g (lw_at lw_m6 40 rfl) rfl
theorem q1377 : (Jvm.Cond.code ({ cls := "LeekReadings", name := "all", desc := "()I" } : Jvm.MethodName) prog_1_method_56_code (1 : Nat) (Option.some Jvm.ClassFile.FieldType.int)) ∈ lw_all := lw_g (lw_at lw_m6 41 rfl) rfl
theorem q1378 : (Jvm.Cond.methodLink "LeekReadings" (347 : Nat) ({ cls := "LeekReadings", name := "within", desc := "()I" } : Jvm.MethodName)) ∈ lw_all := lw_g (lw_at lw_m6 42 rfl) rfl
theorem q1379 : (Jvm.Cond.privateMethod ({ cls := "LeekReadings", name := "within", desc := "()I" } : Jvm.MethodName)) ∈ lw_tbl := lw_at lw_m6 43 rfl
theorem q1380 : (Jvm.Cond.instanceMethod ({ cls := "LeekReadings", name := "within", desc := "()I" } : Jvm.MethodName)) ∈ lw_all := lw_g (lw_at lw_m6 44 rfl) rfl
theorem q1381 : (Jvm.Cond.code ({ cls := "LeekReadings", name := "within", desc := "()I" } : Jvm.MethodName) prog_1_method_57_code (4 : Nat) (Option.some Jvm.ClassFile.FieldType.int)) ∈ lw_all := lw_g (lw_at lw_m6 45 rfl) rfl
theorem q1383 : (Jvm.Cond.instanceMethod ({ cls := "LeekReadings", name := "rows", desc := "(I)I" } : Jvm.MethodName)) ∈ lw_all := lw_g (lw_at lw_m6 47 rfl) rfl
theorem q1384 : (Jvm.Cond.selects "LeekReadings" ({ cls := "LeekReadings", name := "rows", desc := "(I)I" } : Jvm.MethodName) ({ cls := "LeekReadings", name := "rows", desc := "(I)I" } : Jvm.MethodName)) ∈ lw_all := lw_g (lw_at lw_m6 48 rfl) rfl
theorem q1385 : (Jvm.Cond.code ({ cls := "LeekReadings", name := "rows", desc := "(I)I" } : Jvm.MethodName) prog_1_method_61_code (6 : Nat) (Option.some Jvm.ClassFile.FieldType.int)) ∈ lw_all := lw_g (lw_at lw_m6 49 rfl) rfl
theorem q1386 : (Jvm.Cond.methodLink "LeekReadings" (350 : Nat) ({ cls := "LeekReadings", name := "left", desc := "()I" } : Jvm.MethodName)) ∈ lw_all := lw_g (lw_at lw_m6 50 rfl) rfl
theorem q1387 : (Jvm.Cond.privateMethod ({ cls := "LeekReadings", name := "left", desc := "()I" } : Jvm.MethodName)) ∈ lw_tbl := lw_at lw_m6 51 rfl
theorem q1388 : (Jvm.Cond.instanceMethod ({ cls := "LeekReadings", name := "left", desc := "()I" } : Jvm.MethodName)) ∈ lw_all := lw_g (lw_at lw_m6 52 rfl) rfl
theorem q1389 : (Jvm.Cond.code ({ cls := "LeekReadings", name := "left", desc := "()I" } : Jvm.MethodName) prog_1_method_59_code (1 : Nat) (Option.some Jvm.ClassFile.FieldType.int)) ∈ lw_all := lw_g (lw_at lw_m6 53 rfl) rfl
theorem q1390 : (Jvm.Cond.methodLink "LeekReadings" (353 : Nat) ({ cls := "LeekReadings", name := "layOrders", desc := "(I)V" } : Jvm.MethodName)) ∈ lw_all := lw_g (lw_at lw_m6 54 rfl) rfl
theorem q1391 : (Jvm.Cond.privateMethod ({ cls := "LeekReadings", name := "layOrders", desc := "(I)V" } : Jvm.MethodName)) ∈ lw_tbl := lw_at lw_m6 55 rfl
theorem q1392 : (Jvm.Cond.instanceMethod ({ cls := "LeekReadings", name := "layOrders", desc := "(I)V" } : Jvm.MethodName)) ∈ lw_all := lw_g (lw_at lw_m6 56 rfl) rfl
theorem q1393 : (Jvm.Cond.code ({ cls := "LeekReadings", name := "layOrders", desc := "(I)V" } : Jvm.MethodName) prog_1_method_60_code (4 : Nat) (Option.none : Option Jvm.ClassFile.FieldType)) ∈ lw_all := lw_g (lw_at lw_m6 57 rfl) rfl
theorem q1394 : (Jvm.Cond.methodLink "LeekReadings" (356 : Nat) ({ cls := "LeekReadings", name := "firstOpen", desc := "(II)I" } : Jvm.MethodName)) ∈ lw_all := lw_g (lw_at lw_m6 58 rfl) rfl
theorem q1395 : (Jvm.Cond.privateMethod ({ cls := "LeekReadings", name := "firstOpen", desc := "(II)I" } : Jvm.MethodName)) ∈ lw_tbl := lw_at lw_m6 59 rfl
theorem q1396 : (Jvm.Cond.instanceMethod ({ cls := "LeekReadings", name := "firstOpen", desc := "(II)I" } : Jvm.MethodName)) ∈ lw_all := lw_g (lw_at lw_m6 60 rfl) rfl
theorem q1397 : (Jvm.Cond.code ({ cls := "LeekReadings", name := "firstOpen", desc := "(II)I" } : Jvm.MethodName) prog_1_method_62_code (4 : Nat) (Option.some Jvm.ClassFile.FieldType.int)) ∈ lw_all := lw_g (lw_at lw_m6 61 rfl) rfl
theorem q1399 : (Jvm.Cond.instanceMethod ({ cls := "LeekReadings", name := "to", desc := "(II)I" } : Jvm.MethodName)) ∈ lw_all := lw_g (lw_at lw_m6 63 rfl) rfl
theorem q1400 : (Jvm.Cond.selects "LeekReadings" ({ cls := "LeekReadings", name := "to", desc := "(II)I" } : Jvm.MethodName) ({ cls := "LeekReadings", name := "to", desc := "(II)I" } : Jvm.MethodName)) ∈ lw_all := lw_g (lw_at lw_m6 64 rfl) rfl
theorem q1401 : (Jvm.Cond.code ({ cls := "LeekReadings", name := "to", desc := "(II)I" } : Jvm.MethodName) prog_1_method_64_code (7 : Nat) (Option.some Jvm.ClassFile.FieldType.int)) ∈ lw_all := lw_g (lw_at lw_m6 65 rfl) rfl
theorem q1402 : (Jvm.Cond.methodLink "LeekReadings" (359 : Nat) ({ cls := "LeekReadings", name := "leadsTo", desc := "(I)I" } : Jvm.MethodName)) ∈ lw_all := lw_g (lw_at lw_m6 66 rfl) rfl
theorem q1403 : (Jvm.Cond.privateMethod ({ cls := "LeekReadings", name := "leadsTo", desc := "(I)I" } : Jvm.MethodName)) ∈ lw_tbl := lw_at lw_m6 67 rfl
theorem q1404 : (Jvm.Cond.instanceMethod ({ cls := "LeekReadings", name := "leadsTo", desc := "(I)I" } : Jvm.MethodName)) ∈ lw_all := lw_g (lw_at lw_m6 68 rfl) rfl
theorem q1405 : (Jvm.Cond.code ({ cls := "LeekReadings", name := "leadsTo", desc := "(I)I" } : Jvm.MethodName) prog_1_method_63_code (5 : Nat) (Option.some Jvm.ClassFile.FieldType.int)) ∈ lw_all := lw_g (lw_at lw_m6 69 rfl) rfl
theorem q1407 : (Jvm.Cond.instanceMethod ({ cls := "LeekReadings", name := "deep", desc := "(I)I" } : Jvm.MethodName)) ∈ lw_all := lw_g (lw_at lw_m6 71 rfl) rfl
theorem q1408 : (Jvm.Cond.selects "LeekReadings" ({ cls := "LeekReadings", name := "deep", desc := "(I)I" } : Jvm.MethodName) ({ cls := "LeekReadings", name := "deep", desc := "(I)I" } : Jvm.MethodName)) ∈ lw_all := lw_g (lw_at lw_m6 72 rfl) rfl
theorem q1409 : (Jvm.Cond.code ({ cls := "LeekReadings", name := "deep", desc := "(I)I" } : Jvm.MethodName) prog_1_method_66_code (4 : Nat) (Option.some Jvm.ClassFile.FieldType.int)) ∈ lw_all := lw_g (lw_at lw_m6 73 rfl) rfl
theorem q1410 : (Jvm.Cond.methodLink "LeekReadings" (362 : Nat) ({ cls := "LeekReadings", name := "deepOf", desc := "(I)I" } : Jvm.MethodName)) ∈ lw_all := lw_g (lw_at lw_m6 74 rfl) rfl
theorem q1411 : (Jvm.Cond.privateMethod ({ cls := "LeekReadings", name := "deepOf", desc := "(I)I" } : Jvm.MethodName)) ∈ lw_tbl := lw_at lw_m6 75 rfl
theorem q1412 : (Jvm.Cond.instanceMethod ({ cls := "LeekReadings", name := "deepOf", desc := "(I)I" } : Jvm.MethodName)) ∈ lw_all := lw_g (lw_at lw_m6 76 rfl) rfl
theorem q1413 : (Jvm.Cond.code ({ cls := "LeekReadings", name := "deepOf", desc := "(I)I" } : Jvm.MethodName) prog_1_method_65_code (4 : Nat) (Option.some Jvm.ClassFile.FieldType.int)) ∈ lw_all := lw_g (lw_at lw_m6 77 rfl) rfl
theorem q1415 : (Jvm.Cond.instanceMethod ({ cls := "LeekReadings", name := "atOnce", desc := "()I" } : Jvm.MethodName)) ∈ lw_all := lw_g (lw_at lw_m6 79 rfl) rfl
theorem q1416 : (Jvm.Cond.selects "LeekReadings" ({ cls := "LeekReadings", name := "atOnce", desc := "()I" } : Jvm.MethodName) ({ cls := "LeekReadings", name := "atOnce", desc := "()I" } : Jvm.MethodName)) ∈ lw_all := lw_g (lw_at lw_m6 80 rfl) rfl
theorem q1417 : (Jvm.Cond.code ({ cls := "LeekReadings", name := "atOnce", desc := "()I" } : Jvm.MethodName) prog_1_method_68_code (4 : Nat) (Option.some Jvm.ClassFile.FieldType.int)) ∈ lw_all := lw_g (lw_at lw_m6 81 rfl) rfl
theorem q1418 : (Jvm.Cond.methodLink "LeekReadings" (365 : Nat) ({ cls := "LeekReadings", name := "readBy", desc := "(II)I" } : Jvm.MethodName)) ∈ lw_all := lw_g (lw_at lw_m6 82 rfl) rfl
theorem q1419 : (Jvm.Cond.privateMethod ({ cls := "LeekReadings", name := "readBy", desc := "(II)I" } : Jvm.MethodName)) ∈ lw_tbl := lw_at lw_m6 83 rfl
theorem q1420 : (Jvm.Cond.instanceMethod ({ cls := "LeekReadings", name := "readBy", desc := "(II)I" } : Jvm.MethodName)) ∈ lw_all := lw_g (lw_at lw_m6 84 rfl) rfl
theorem q1421 : (Jvm.Cond.code ({ cls := "LeekReadings", name := "readBy", desc := "(II)I" } : Jvm.MethodName) prog_1_method_67_code (5 : Nat) (Option.some Jvm.ClassFile.FieldType.int)) ∈ lw_all := lw_g (lw_at lw_m6 85 rfl) rfl
theorem q1423 : (Jvm.Cond.instanceMethod ({ cls := "LeekReadings", name := "key", desc := "(I)I" } : Jvm.MethodName)) ∈ lw_all := lw_g (lw_at lw_m6 87 rfl) rfl
theorem q1424 : (Jvm.Cond.selects "LeekReadings" ({ cls := "LeekReadings", name := "key", desc := "(I)I" } : Jvm.MethodName) ({ cls := "LeekReadings", name := "key", desc := "(I)I" } : Jvm.MethodName)) ∈ lw_all := lw_g (lw_at lw_m6 88 rfl) rfl
theorem q1425 : (Jvm.Cond.code ({ cls := "LeekReadings", name := "key", desc := "(I)I" } : Jvm.MethodName) prog_1_method_69_code (8 : Nat) (Option.some Jvm.ClassFile.FieldType.int)) ∈ lw_all := lw_g (lw_at lw_m6 89 rfl) rfl
theorem q1427 : (Jvm.Cond.instanceMethod ({ cls := "LeekReadings", name := "tallest", desc := "(III)I" } : Jvm.MethodName)) ∈ lw_all := lw_g (lw_at lw_m6 91 rfl) rfl
theorem q1428 : (Jvm.Cond.selects "LeekReadings" ({ cls := "LeekReadings", name := "tallest", desc := "(III)I" } : Jvm.MethodName) ({ cls := "LeekReadings", name := "tallest", desc := "(III)I" } : Jvm.MethodName)) ∈ lw_all := lw_g (lw_at lw_m6 92 rfl) rfl
theorem q1429 : (Jvm.Cond.code ({ cls := "LeekReadings", name := "tallest", desc := "(III)I" } : Jvm.MethodName) prog_1_method_71_code (4 : Nat) (Option.some Jvm.ClassFile.FieldType.int)) ∈ lw_all := lw_g (lw_at lw_m6 93 rfl) rfl
theorem q1430 : (Jvm.Cond.constantLong "LeekReadings" (381 : Nat) (60 : Int64)) ∈ lw_all := lw_g (lw_at lw_m6 94 rfl) rfl
theorem q1431 : (Jvm.Cond.methodLink "LeekReadings" (377 : Nat) ({ cls := "LeekReadings", name := "grow", desc := "(III)V" } : Jvm.MethodName)) ∈ lw_all := lw_g (lw_at lw_m6 95 rfl) rfl
theorem q1432 : (Jvm.Cond.privateMethod ({ cls := "LeekReadings", name := "grow", desc := "(III)V" } : Jvm.MethodName)) ∈ lw_tbl := lw_at lw_m6 96 rfl
theorem q1433 : (Jvm.Cond.instanceMethod ({ cls := "LeekReadings", name := "grow", desc := "(III)V" } : Jvm.MethodName)) ∈ lw_all := lw_g (lw_at lw_m6 97 rfl) rfl
theorem q1434 : (Jvm.Cond.code ({ cls := "LeekReadings", name := "grow", desc := "(III)V" } : Jvm.MethodName) prog_1_method_70_code (6 : Nat) (Option.none : Option Jvm.ClassFile.FieldType)) ∈ lw_all := lw_g (lw_at lw_m6 98 rfl) rfl
theorem q1436 : (Jvm.Cond.instanceMethod ({ cls := "LeekReadings", name := "soon", desc := "(II)I" } : Jvm.MethodName)) ∈ lw_all := lw_g (lw_at lw_m6 100 rfl) rfl
theorem q1437 : (Jvm.Cond.selects "LeekReadings" ({ cls := "LeekReadings", name := "soon", desc := "(II)I" } : Jvm.MethodName) ({ cls := "LeekReadings", name := "soon", desc := "(II)I" } : Jvm.MethodName)) ∈ lw_all := lw_g (lw_at lw_m6 101 rfl) rfl
theorem q1438 : (Jvm.Cond.code ({ cls := "LeekReadings", name := "soon", desc := "(II)I" } : Jvm.MethodName) prog_1_method_73_code (3 : Nat) (Option.some Jvm.ClassFile.FieldType.int)) ∈ lw_all := lw_g (lw_at lw_m6 102 rfl) rfl
theorem q1439 : (Jvm.Cond.constant "LeekReadings" (392 : Nat) (100000000 : Int32)) ∈ lw_all := lw_g (lw_at lw_m6 103 rfl) rfl
theorem q1440 : (Jvm.Cond.methodLink "LeekReadings" (389 : Nat) ({ cls := "LeekReadings", name := "hurry", desc := "(II)V" } : Jvm.MethodName)) ∈ lw_all := lw_g (lw_at lw_m6 104 rfl) rfl
theorem q1441 : (Jvm.Cond.privateMethod ({ cls := "LeekReadings", name := "hurry", desc := "(II)V" } : Jvm.MethodName)) ∈ lw_tbl := lw_at lw_m6 105 rfl
theorem q1442 : (Jvm.Cond.instanceMethod ({ cls := "LeekReadings", name := "hurry", desc := "(II)V" } : Jvm.MethodName)) ∈ lw_all := lw_g (lw_at lw_m6 106 rfl) rfl
theorem q1443 : (Jvm.Cond.code ({ cls := "LeekReadings", name := "hurry", desc := "(II)V" } : Jvm.MethodName) prog_1_method_72_code (5 : Nat) (Option.none : Option Jvm.ClassFile.FieldType)) ∈ lw_all := lw_g (lw_at lw_m6 107 rfl) rfl
theorem q1445 : (Jvm.Cond.instanceMethod ({ cls := "LeekReadings", name := "compare", desc := "(III)I" } : Jvm.MethodName)) ∈ lw_all := lw_g (lw_at lw_m6 109 rfl) rfl
theorem q1446 : (Jvm.Cond.selects "LeekReadings" ({ cls := "LeekReadings", name := "compare", desc := "(III)I" } : Jvm.MethodName) ({ cls := "LeekReadings", name := "compare", desc := "(III)I" } : Jvm.MethodName)) ∈ lw_all := lw_g (lw_at lw_m6 110 rfl) rfl
theorem q1447 : (Jvm.Cond.code ({ cls := "LeekReadings", name := "compare", desc := "(III)I" } : Jvm.MethodName) prog_1_method_74_code (6 : Nat) (Option.some Jvm.ClassFile.FieldType.int)) ∈ lw_all := lw_g (lw_at lw_m6 111 rfl) rfl
theorem q1449 : (Jvm.Cond.instanceMethod ({ cls := "LeekReadings", name := "seen", desc := "(II)I" } : Jvm.MethodName)) ∈ lw_all := lw_g (lw_at lw_m6 113 rfl) rfl
theorem q1450 : (Jvm.Cond.selects "LeekReadings" ({ cls := "LeekReadings", name := "seen", desc := "(II)I" } : Jvm.MethodName) ({ cls := "LeekReadings", name := "seen", desc := "(II)I" } : Jvm.MethodName)) ∈ lw_all := lw_g (lw_at lw_m6 114 rfl) rfl
theorem q1451 : (Jvm.Cond.code ({ cls := "LeekReadings", name := "seen", desc := "(II)I" } : Jvm.MethodName) prog_1_method_75_code (4 : Nat) (Option.some Jvm.ClassFile.FieldType.int)) ∈ lw_all := lw_g (lw_at lw_m6 115 rfl) rfl
theorem q1452 : (Jvm.Cond.constantLong "LeekReadings" (393 : Nat) (99 : Int64)) ∈ lw_all := lw_g (lw_at lw_m6 116 rfl) rfl
theorem q1454 : (Jvm.Cond.instanceMethod ({ cls := "LeekReadings", name := "forget", desc := "()I" } : Jvm.MethodName)) ∈ lw_all := lw_g (lw_at lw_m6 118 rfl) rfl
theorem q1455 : (Jvm.Cond.selects "LeekReadings" ({ cls := "LeekReadings", name := "forget", desc := "()I" } : Jvm.MethodName) ({ cls := "LeekReadings", name := "forget", desc := "()I" } : Jvm.MethodName)) ∈ lw_all := lw_g (lw_at lw_m6 119 rfl) rfl
theorem q1456 : (Jvm.Cond.code ({ cls := "LeekReadings", name := "forget", desc := "()I" } : Jvm.MethodName) prog_1_method_76_code (2 : Nat) (Option.some Jvm.ClassFile.FieldType.int)) ∈ lw_all := lw_g (lw_at lw_m6 120 rfl) rfl
theorem q1458 : (Jvm.Cond.instanceMethod ({ cls := "LeekReadings", name := "canBe", desc := "()I" } : Jvm.MethodName)) ∈ lw_all := lw_g (lw_at lw_m6 122 rfl) rfl
theorem q1459 : (Jvm.Cond.selects "LeekReadings" ({ cls := "LeekReadings", name := "canBe", desc := "()I" } : Jvm.MethodName) ({ cls := "LeekReadings", name := "canBe", desc := "()I" } : Jvm.MethodName)) ∈ lw_all := lw_g (lw_at lw_m6 123 rfl) rfl
theorem q1460 : (Jvm.Cond.code ({ cls := "LeekReadings", name := "canBe", desc := "()I" } : Jvm.MethodName) prog_1_method_77_code (5 : Nat) (Option.some Jvm.ClassFile.FieldType.int)) ∈ lw_all := lw_g (lw_at lw_m6 124 rfl) rfl
theorem q1462 : (Jvm.Cond.instanceMethod ({ cls := "LeekReadings", name := "look", desc := "(I)I" } : Jvm.MethodName)) ∈ lw_all := lw_g (lw_at lw_m6 126 rfl) rfl
theorem q1463 : (Jvm.Cond.selects "LeekReadings" ({ cls := "LeekReadings", name := "look", desc := "(I)I" } : Jvm.MethodName) ({ cls := "LeekReadings", name := "look", desc := "(I)I" } : Jvm.MethodName)) ∈ lw_all := lw_g (lw_at lw_m6 127 rfl) rfl
theorem q1464 : (Jvm.Cond.code ({ cls := "LeekReadings", name := "look", desc := "(I)I" } : Jvm.MethodName) prog_1_method_79_code (7 : Nat) (Option.some Jvm.ClassFile.FieldType.int)) ∈ lw_all := lw_g (lw_at lw_m6 128 rfl) rfl
theorem q1465 : (Jvm.Cond.methodLink "LeekReadings" (408 : Nat) ({ cls := "LeekReadings", name := "canBe", desc := "()I" } : Jvm.MethodName)) ∈ lw_all := lw_g (lw_at lw_m6 129 rfl) rfl
theorem q1466 : (Jvm.Cond.methodLink "LeekReadings" (411 : Nat) ({ cls := "LeekReadings", name := "mostAlike", desc := "(II)I" } : Jvm.MethodName)) ∈ lw_all := lw_g (lw_at lw_m6 130 rfl) rfl
theorem q1467 : (Jvm.Cond.privateMethod ({ cls := "LeekReadings", name := "mostAlike", desc := "(II)I" } : Jvm.MethodName)) ∈ lw_tbl := lw_at lw_m6 131 rfl
theorem q1468 : (Jvm.Cond.instanceMethod ({ cls := "LeekReadings", name := "mostAlike", desc := "(II)I" } : Jvm.MethodName)) ∈ lw_all := lw_g (lw_at lw_m6 132 rfl) rfl
theorem q1469 : (Jvm.Cond.code ({ cls := "LeekReadings", name := "mostAlike", desc := "(II)I" } : Jvm.MethodName) prog_1_method_78_code (5 : Nat) (Option.some Jvm.ClassFile.FieldType.int)) ∈ lw_all := lw_g (lw_at lw_m6 133 rfl) rfl
theorem q1470 : (Jvm.Cond.methodLink "LeekReadings" (402 : Nat) ({ cls := "java/util/Arrays", name := "fill", desc := "([II)V" } : Jvm.MethodName)) ∈ lw_all := lw_g (lw_at lw_m6 134 rfl) rfl
theorem q1474 : (Jvm.Cond.instanceMethod ({ cls := "LeekReadings", name := "few", desc := "(II)J" } : Jvm.MethodName)) ∈ lw_all := lw_g (lw_at lw_m6 138 rfl) rfl
theorem q1475 : (Jvm.Cond.selects "LeekReadings" ({ cls := "LeekReadings", name := "few", desc := "(II)J" } : Jvm.MethodName) ({ cls := "LeekReadings", name := "few", desc := "(II)J" } : Jvm.MethodName)) ∈ lw_all := lw_g (lw_at lw_m6 139 rfl) rfl
theorem q1476 : (Jvm.Cond.code ({ cls := "LeekReadings", name := "few", desc := "(II)J" } : Jvm.MethodName) prog_1_method_80_code (8 : Nat) (Option.some Jvm.ClassFile.FieldType.long)) ∈ lw_all := lw_g (lw_at lw_m6 140 rfl) rfl
theorem q1477 : (Jvm.Cond.constantLong "LeekReadings" (414 : Nat) (20 : Int64)) ∈ lw_all := lw_g (lw_at lw_m6 141 rfl) rfl
theorem q1478 : (Jvm.Cond.constantLong "LeekReadings" (416 : Nat) (1000000000000 : Int64)) ∈ lw_all := lw_g (lw_at lw_m6 142 rfl) rfl
theorem q1480 : (Jvm.Cond.instanceMethod ({ cls := "LeekReadings", name := "orders", desc := "()I" } : Jvm.MethodName)) ∈ lw_all := lw_g (lw_at lw_m6 144 rfl) rfl
theorem q1481 : (Jvm.Cond.selects "LeekReadings" ({ cls := "LeekReadings", name := "orders", desc := "()I" } : Jvm.MethodName) ({ cls := "LeekReadings", name := "orders", desc := "()I" } : Jvm.MethodName)) ∈ lw_all := lw_g (lw_at lw_m6 145 rfl) rfl
theorem q1482 : (Jvm.Cond.codeWith ({ cls := "LeekReadings", name := "orders", desc := "()I" } : Jvm.MethodName) prog_1_method_82_code (5 : Nat) (Option.some Jvm.ClassFile.FieldType.int) [((5 : Nat), (22 : Nat), (30 : Nat), (256 : Nat)), ((5 : Nat), (22 : Nat), (53 : Nat), (0 : Nat)), ((30 : Nat), (46 : Nat), (53 : Nat), (0 : Nat)), ((53 : Nat), (55 : Nat), (53 : Nat), (0 : Nat))]) ∈ lw_all := lw_g (lw_at lw_m6 146 rfl) rfl
theorem q1483 : (Jvm.Cond.classLink "LeekReadings" (429 : Nat) "LeekReadings$OrderReader") ∈ lw_all := lw_g (lw_at lw_m6 147 rfl) rfl
theorem q1484 : (Jvm.Cond.methodLink "LeekReadings" (431 : Nat) ({ cls := "LeekReadings$OrderReader", name := "<init>", desc := "(LLeekReadings;)V" } : Jvm.MethodName)) ∈ lw_all := lw_g (lw_at lw_m6 148 rfl) rfl
theorem q1512 : (Jvm.Cond.methodLink "LeekReadings" (432 : Nat) ({ cls := "LeekReadings$OrderReader", name := "read", desc := "()[LLeekReadings$Act;" } : Jvm.MethodName)) ∈ lw_all := lw_g (lw_at lw_m6 176 rfl) rfl
theorem q1520 : (Jvm.Cond.methodLink "LeekReadings" (435 : Nat) ({ cls := "LeekReadings$Steps", name := "as", desc := "(LLeekReadings$Steps;)V" } : Jvm.MethodName)) ∈ lw_all := lw_g (lw_at lw_m6 184 rfl) rfl
theorem q1524 : (Jvm.Cond.methodLink "LeekReadings" (441 : Nat) ({ cls := "LeekReadings", name := "runAll", desc := "([LLeekReadings$Act;)I" } : Jvm.MethodName)) ∈ lw_all := lw_g (lw_at lw_m6 188 rfl) rfl
theorem q1525 : (Jvm.Cond.privateMethod ({ cls := "LeekReadings", name := "runAll", desc := "([LLeekReadings$Act;)I" } : Jvm.MethodName)) ∈ lw_tbl := lw_at lw_m6 189 rfl
theorem q1526 : (Jvm.Cond.instanceMethod ({ cls := "LeekReadings", name := "runAll", desc := "([LLeekReadings$Act;)I" } : Jvm.MethodName)) ∈ lw_all := lw_g (lw_at lw_m6 190 rfl) rfl
theorem q1527 : (Jvm.Cond.code ({ cls := "LeekReadings", name := "runAll", desc := "([LLeekReadings$Act;)I" } : Jvm.MethodName) prog_1_method_81_code (4 : Nat) (Option.some Jvm.ClassFile.FieldType.int)) ∈ lw_all := lw_g (lw_at lw_m6 191 rfl) rfl
theorem q1528 : (Jvm.Cond.methodLink "LeekReadings" (423 : Nat) ({ cls := "LeekReadings$Act", name := "run", desc := "()I" } : Jvm.MethodName)) ∈ lw_all := lw_g (lw_at lw_m6 192 rfl) rfl
theorem q1557 : (Jvm.Cond.instanceMethod ({ cls := "LeekReadings", name := "stopped", desc := "()I" } : Jvm.MethodName)) ∈ lw_all := lw_g (lw_at lw_m6 221 rfl) rfl
theorem q1558 : (Jvm.Cond.selects "LeekReadings" ({ cls := "LeekReadings", name := "stopped", desc := "()I" } : Jvm.MethodName) ({ cls := "LeekReadings", name := "stopped", desc := "()I" } : Jvm.MethodName)) ∈ lw_all := lw_g (lw_at lw_m6 222 rfl) rfl
theorem q1559 : (Jvm.Cond.code ({ cls := "LeekReadings", name := "stopped", desc := "()I" } : Jvm.MethodName) prog_1_method_83_code (1 : Nat) (Option.some Jvm.ClassFile.FieldType.int)) ∈ lw_all := lw_g (lw_at lw_m6 223 rfl) rfl
theorem q1561 : (Jvm.Cond.instanceMethod ({ cls := "LeekReadings", name := "shows", desc := "(II)I" } : Jvm.MethodName)) ∈ lw_all := lw_g (lw_at lw_m6 225 rfl) rfl
theorem q1562 : (Jvm.Cond.selects "LeekReadings" ({ cls := "LeekReadings", name := "shows", desc := "(II)I" } : Jvm.MethodName) ({ cls := "LeekReadings", name := "shows", desc := "(II)I" } : Jvm.MethodName)) ∈ lw_all := lw_g (lw_at lw_m6 226 rfl) rfl
theorem q1563 : (Jvm.Cond.code ({ cls := "LeekReadings", name := "shows", desc := "(II)I" } : Jvm.MethodName) prog_1_method_84_code (8 : Nat) (Option.some Jvm.ClassFile.FieldType.int)) ∈ lw_all := lw_g (lw_at lw_m6 227 rfl) rfl
theorem q1564 : (Jvm.Cond.constantLong "LeekReadings" (445 : Nat) (1000000 : Int64)) ∈ lw_all := lw_g (lw_at lw_m6 228 rfl) rfl
theorem q1565 : (Jvm.Cond.classLink "LeekReadings" (447 : Nat) "LeekReadings$Draws") ∈ lw_all := lw_g (lw_at lw_m6 229 rfl) rfl
theorem q1567 : (Jvm.Cond.methodLink "LeekReadings" (449 : Nat) ({ cls := "LeekReadings$Draws", name := "<init>", desc := "(I)V" } : Jvm.MethodName)) ∈ lw_all := lw_g (lw_at lw_m6 231 rfl) rfl
theorem q1575 : (Jvm.Cond.methodLink "LeekReadings" (451 : Nat) ({ cls := "LeekReadings$Draws", name := "next", desc := "(I)I" } : Jvm.MethodName)) ∈ lw_all := lw_g (lw_at lw_m6 239 rfl) rfl
theorem q1582 : (Jvm.Cond.methodLink "LeekReadings" (454 : Nat) ({ cls := "LeekReadings$Books", name := "all", desc := "()I" } : Jvm.MethodName)) ∈ lw_all := lw_g (lw_at lw_m7 6 rfl) rfl
theorem q1584 : (Jvm.Cond.instanceMethod ({ cls := "LeekReadings", name := "drawn", desc := "(II)I" } : Jvm.MethodName)) ∈ lw_all := lw_g (lw_at lw_m7 8 rfl) rfl
theorem q1585 : (Jvm.Cond.selects "LeekReadings" ({ cls := "LeekReadings", name := "drawn", desc := "(II)I" } : Jvm.MethodName) ({ cls := "LeekReadings", name := "drawn", desc := "(II)I" } : Jvm.MethodName)) ∈ lw_all := lw_g (lw_at lw_m7 9 rfl) rfl
theorem q1586 : (Jvm.Cond.code ({ cls := "LeekReadings", name := "drawn", desc := "(II)I" } : Jvm.MethodName) prog_1_method_85_code (3 : Nat) (Option.some Jvm.ClassFile.FieldType.int)) ∈ lw_all := lw_g (lw_at lw_m7 10 rfl) rfl
theorem q1588 : (Jvm.Cond.instanceMethod ({ cls := "LeekReadings", name := "image", desc := "(I)I" } : Jvm.MethodName)) ∈ lw_all := lw_g (lw_at lw_m7 12 rfl) rfl
theorem q1589 : (Jvm.Cond.selects "LeekReadings" ({ cls := "LeekReadings", name := "image", desc := "(I)I" } : Jvm.MethodName) ({ cls := "LeekReadings", name := "image", desc := "(I)I" } : Jvm.MethodName)) ∈ lw_all := lw_g (lw_at lw_m7 13 rfl) rfl
theorem q1590 : (Jvm.Cond.code ({ cls := "LeekReadings", name := "image", desc := "(I)I" } : Jvm.MethodName) prog_1_method_86_code (2 : Nat) (Option.some Jvm.ClassFile.FieldType.int)) ∈ lw_all := lw_g (lw_at lw_m7 14 rfl) rfl
theorem q1591 : (Jvm.Cond.methodLink "LeekReadings" (455 : Nat) ({ cls := "LeekReadings$Bed", name := "copy", desc := "()LLeekReadings$Bed;" } : Jvm.MethodName)) ∈ lw_all := lw_g (lw_at lw_m7 15 rfl) rfl
theorem q1615 : (Jvm.Cond.instanceMethod ({ cls := "LeekReadings", name := "back", desc := "(I)I" } : Jvm.MethodName)) ∈ lw_all := lw_g (lw_at lw_m7 39 rfl) rfl
theorem q1616 : (Jvm.Cond.selects "LeekReadings" ({ cls := "LeekReadings", name := "back", desc := "(I)I" } : Jvm.MethodName) ({ cls := "LeekReadings", name := "back", desc := "(I)I" } : Jvm.MethodName)) ∈ lw_all := lw_g (lw_at lw_m7 40 rfl) rfl
theorem q1617 : (Jvm.Cond.code ({ cls := "LeekReadings", name := "back", desc := "(I)I" } : Jvm.MethodName) prog_1_method_87_code (2 : Nat) (Option.some Jvm.ClassFile.FieldType.int)) ∈ lw_all := lw_g (lw_at lw_m7 41 rfl) rfl
theorem q1619 : (Jvm.Cond.instanceMethod ({ cls := "LeekReadings", name := "count", desc := "(I)I" } : Jvm.MethodName)) ∈ lw_all := lw_g (lw_at lw_m7 43 rfl) rfl
theorem q1620 : (Jvm.Cond.selects "LeekReadings" ({ cls := "LeekReadings", name := "count", desc := "(I)I" } : Jvm.MethodName) ({ cls := "LeekReadings", name := "count", desc := "(I)I" } : Jvm.MethodName)) ∈ lw_all := lw_g (lw_at lw_m7 44 rfl) rfl
theorem q1621 : (Jvm.Cond.code ({ cls := "LeekReadings", name := "count", desc := "(I)I" } : Jvm.MethodName) prog_1_method_88_code (2 : Nat) (Option.some Jvm.ClassFile.FieldType.int)) ∈ lw_all := lw_g (lw_at lw_m7 45 rfl) rfl
theorem q1622 : (Jvm.Cond.constantLong "LeekReadings" (459 : Nat) (13 : Int64)) ∈ lw_all := lw_g (lw_at lw_m7 46 rfl) rfl
theorem q1623 : (Jvm.Cond.constantLong "LeekReadings" (461 : Nat) (15 : Int64)) ∈ lw_all := lw_g (lw_at lw_m7 47 rfl) rfl
theorem q1625 : (Jvm.Cond.instanceMethod ({ cls := "LeekReadings", name := "status", desc := "()I" } : Jvm.MethodName)) ∈ lw_all := lw_g (lw_at lw_m7 49 rfl) rfl
theorem q1626 : (Jvm.Cond.selects "LeekReadings" ({ cls := "LeekReadings", name := "status", desc := "()I" } : Jvm.MethodName) ({ cls := "LeekReadings", name := "status", desc := "()I" } : Jvm.MethodName)) ∈ lw_all := lw_g (lw_at lw_m7 50 rfl) rfl
theorem q1627 : (Jvm.Cond.code ({ cls := "LeekReadings", name := "status", desc := "()I" } : Jvm.MethodName) prog_1_method_89_code (1 : Nat) (Option.some Jvm.ClassFile.FieldType.int)) ∈ lw_all := lw_g (lw_at lw_m7 51 rfl) rfl
theorem q2386 : (Jvm.Cond.castable "LeekReadings" "java/lang/Object") ∈ lw_tbl := lw_at lw_m10 90 rfl
theorem in_X0 : ∀ w ∈ wsX00, w ∈ lw_all := lw_in wsX00 [390, 392, 394, 396, 398, 400, 402, 404, 406, 408, 410, 412, 414, 416, 418, 420, 422, 424, 426, 428, 430, 432, 434, 436, 438, 440, 442, 444, 446, 448, 450] (by decide +kernel) (by decide +kernel)
